/-! Math's methods on doubles and floats: the machine answers them by its table. Printed by gen/natives.py -/
theorem vo_ov {tb : Tables} {e : Env} {s : State} {f : JFrame} {k : Class} {x : Method} {row : NativeRow} (hpc : f.pc = 0) (hk : s.vm.classes[f.method.cls]? = some k) (hin : k.name ∈ overriddenIn) (hboot : k.loader = none) (hx : k.methods[f.method.idx]? = some x) (hrow : NativeRow.find? tb.natives k.name x.name x.desc = some row) : overridden tb e s f = some row := by
  unfold overridden
  simp [hpc, hk, hboot, hx, hrow]
  intro h
  exact absurd hin h
theorem vo_stD1 {p : Program} {l : Launch} {e : Env} {R : Room} {s : State} {m : MethodId} {args : Array Value} {below : List Frame} {meth : Method} {c : Code} {T : State} {locs : List Loc} {cells slots : Nat} (X : Stand p l e R s m args below meth c T locs cells slots) (hexec : p.tables.exec = Jvm.exec) {own : String} {index : Nat} {y : MethodName} {bytes : ByteArray} (hown : s.vm.findClass own = some m.cls) (hlink : (Cond.methodLink own index y).before args s = true) (hstat : (Cond.static y).before args s = true) (hinit : (Cond.initialized y.cls).before args s = true) (hcode : (Cond.code y bytes 2 (some .double)).before args s = true) (hyc : y.cls = "java/lang/Math") (hyd : y.desc = "(D)D") {row : NativeRow} (hrow : ∀ p : Program, NativeRow.find? p.tables.natives y.cls y.name y.desc = some row) {a v : UInt64} (hrun : ∀ (e : Env) (S : State), ∃ acts, (row.sem #[Value.double a]).run e S = .ok (some (.double v)) S acts)
    {g : JFrame} (hg : g.method = m) (hsize : g.locals.size = c.maxLocals) {rest : List Value} (hstack : g.stack = .double a :: rest) (hdg : decode c.code g.pc = .ok (.invokestatic index, 3)) (hframes : 1 ≤ R.frames) (hlocals : 2 * g.monitorRoom + (rest.map fun v => v.category).sum + (2 + 11) ≤ R.locals) :
    ∃ vm', Stand p l e R s m args below meth c (T.setVm vm') locs cells slots ∧ ∀ target, Steps p.tables e below ((T.setVm vm').setTop { g with pc := g.pc + 3, stack := .double v :: rest }) target → Steps p.tables e below (T.setTop g) target := by
  obtain ⟨mk, hnamed⟩ := Cond.code_named hcode
  obtain ⟨methM, cM, hmethM, hcodeM, -, -, -, -, -, hsigM⟩ := Cond.code_spec hnamed hcode
  have hstatic : methM.isStatic = true := Cond.static_spec hnamed hmethM hstat
  obtain ⟨kP, hkP, hkname⟩ := className_of_methodNamed hnamed
  have hinitP : kP.init = .initialized := Cond.initialized_spec (findClass_of_methodNamed hnamed) hkP hinit
  have hsig2 : parseMethodDescriptor "(D)D" = some { parameters := [.double], returnType := some .double } := by decide +kernel
  have hsigX := hsigM
  rw [hyd, hsig2] at hsigX
  have hsigE := (Option.some.inj hsigX).symm
  obtain ⟨vm', X', step⟩ := X.invokestatic hexec hown hlink hnamed hmethM hstatic hkP hinitP (by rw [hyc]; decide) hg (argsL := [Value.double a]) (rest := rest) (by rw [hsigE]; rfl) hstack hdg
  refine ⟨vm', X', fun target hrest => step target fun acts => ?_⟩
  subst hg
  have hnamed' := X'.named hnamed
  have hcode' : (Cond.code y bytes 2 (some .double)).before args (T.setVm vm') = true := Cond.tabsOnly_warm (args' := args) (T := T.setVm vm') X'.warmed _ rfl hcode
  generalize T.setVm vm' = s9 at *
  obtain ⟨meth1, cm, hm, hc, -, hml, -, hl, -, hsig1⟩ := Cond.code_spec hnamed' hcode'
  obtain ⟨k, hk, hkn0⟩ := className_of_methodNamed hnamed'
  obtain ⟨hmn, hmd⟩ := name_of_methodNamed hnamed' hm
  have hx : k.methods[mk.idx]? = some meth1 := by simpa [Vm.method?, hk] using hm
  have hboot : k.loader = none := Vm.bootOf_findClass (findClass_of_methodNamed hnamed') hk
  have hkn : k.name = "java/lang/Math" := hkn0.trans hyc
  have htopS := X'.here.top
  obtain ⟨g₀, hg⟩ := Option.isSome_iff_exists.mp htopS
  obtain ⟨r, hr⟩ := State.topJava?_eq_some.mp hg
  obtain ⟨mid, hmid⟩ := X'.here.above
  have hcur : s9.cur < s9.threads.size := State.cur_lt_of_frames hr
  have htop : s9.setTop { g with stack := rest } = s9.setFrames (.java { g with stack := rest } :: r) := State.setTop_of_frames _ hr
  have htail : s9.frames.tail = r := by rw [hr]; rfl
  have hfull : e.platform.stackFull (s9.setTop { g with stack := rest }).me (s9.setTop { g with stack := rest }).frames cm.maxLocals = false := by rw [hml]; exact X'.notFull (g := { g with stack := rest }) hsize (vars := 2) hframes hlocals
  rw [(doInvoke_java (s := s9.setTop { g with stack := rest }) (e := e) (acts := acts) (args := #[Value.double a]) (meth := meth1) (code := cm) hm hc hl hfull).1, hml]
  have hU : (s9.setTop { g with stack := rest }).pushFrame (.java { method := mk, pc := 0, locals := argsToLocals #[Value.double a] 2, stack := [], locked := none }) = s9.setFrames (.java (entryFrame mk #[Value.double a] 2) :: .java { g with stack := rest } :: r) := by
    rw [State.pushFrame, State.frames_setTop _ hr, htop, State.setFrames_setFrames]
    rfl
  rw [hU]
  have hf1 : (s9.setFrames (.java (entryFrame mk #[Value.double a] 2) :: .java { g with stack := rest } :: r)).frames = .java (entryFrame mk #[Value.double a] 2) :: .java { g with stack := rest } :: r := State.frames_setFrames _ hcur
  have hov : overridden p.tables e (s9.setFrames (.java (entryFrame mk #[Value.double a] 2) :: .java { g with stack := rest } :: r)) (entryFrame mk #[Value.double a] 2) = some row :=
    vo_ov (k := k) (x := meth1) rfl hk (by rw [hkn]; decide) hboot hx (by rw [hkn0, hmn, hmd]; exact hrow p)
  have hb2 : ∀ F : List Frame, ((s9.setFrames F).vm.classes[mk.cls]?.bind fun y => y.methods[mk.idx]?) = some meth1 := by
    intro F
    show (s9.vm.classes[mk.cls]?.bind fun y => y.methods[mk.idx]?) = some meth1
    simp [hk, hx]
  have hb3 : (s9.vm.classes[mk.cls]?.bind fun x => x.methods[mk.idx]?) = some meth1 := by simp [hk, hx]
  have hparams : meth1.sig.parameters.length = 1 := by
    have h3 := hsig1
    rw [hyd, hsig2] at h3
    rw [← Option.some.inj h3]
    rfl
  have htake : ∀ n : Nat, List.take (1 + n) [Value.double a] = [Value.double a] := by
    intro n
    exact List.take_of_length_le (Nat.le_add_right 1 n)
  obtain ⟨acts₂, hr2⟩ := hrun e (s9.setFrames (.native { method := mk, args := #[Value.double a] } :: .java { g with stack := rest } :: r))
  have hcodeF : ∀ F : List Frame, (s9.setFrames F).code? g.method = some c := by
    intro F
    have := X'.here.code
    rw [State.code?_eq] at this ⊢
    simpa [State.setFrames] using this
  have hfs : handOver (s9.setFrames (.native { method := mk, args := #[Value.double a] } :: .java { g with stack := rest } :: r)) (some (.double v)) (.java { g with stack := rest } :: r) = some (.java { g with pc := g.pc + 3, stack := .double v :: rest } :: r) := by
    simp [handOver, hcodeF, hdg, Except.toOption]
  have hstep2 : (stepThread p.tables e (s9.setFrames (.java (entryFrame mk #[Value.double a] 2) :: .java { g with stack := rest } :: r))).1 = s9.setTop { g with pc := g.pc + 3, stack := .double v :: rest } := by
    unfold stepThread
    simp only [hf1, hov]
    simp [entryFrame, argsToLocals, Value.category, argCount, hb2, hb3, hparams, htake, hr2, afterNative]
    rw [doReturn_native (f := { method := mk, args := #[Value.double a] }) (below := .java { g with stack := rest } :: r) (State.frames_setFrames _ hcur) rfl hfs, State.setFrames_setFrames, ← State.setTop_of_frames _ hr]
  refine Steps.head ⟨X'.here.running, by simpa using X'.here.runnable, by simpa using X'.here.alone⟩ ⟨.java (entryFrame mk #[Value.double a] 2) :: .java { g with stack := rest } :: mid, by rw [hf1]; rw [hr] at hmid; simp at hmid; simp [hmid], by simp, by simp⟩ ?_
  rw [hstep2]
  exact hrest
theorem x_ovD1 {g : XG} {own : String} {cc : ByteArray} {nL d mc ms pc : Nat} {lv : List (Nat × Value)} {st : List Value} {ws : va_W} {k n : Nat} {index : Nat} {y : MethodName} {bytes : ByteArray} {row : NativeRow} {a v : UInt64} (G : XO g own cc nL d mc ms) (hq : Cond.methodLink own index y ∈ lw_all) (hstat : Cond.static y ∈ lw_all) (hini : Cond.initialized y.cls ∈ lw_all) (hcode : Cond.code y bytes 2 (some .double) ∈ lw_all) (hyc : y.cls = "java/lang/Math") (hyd : y.desc = "(D)D") (hrow : ∀ p : Program, NativeRow.find? p.tables.natives y.cls y.name y.desc = some row) (hrun : ∀ (e : Env) (S : State), ∃ acts, (row.sem #[Value.double a]).run e S = .ok (some (.double v)) S acts) (hd : 1 ≤ d) (hcat : (st.map fun v => v.category).sum ≤ 8) (dg : decode cc pc = .ok (.invokestatic index, 3)) (kk : X g nL (pc + 3) lv (.double v :: st) ws k n) : X g nL pc lv (.double a :: st) ws k n := fun hD H locs ls hl hP hS => by
  intro T hT Y
  obtain ⟨vm', Y', st1⟩ := vo_stD1 Y G.exec G.cls (G.hts _ hq) (G.hts _ hstat) (G.hts _ hini) (G.hts _ hcode) hyc hyd hrow hrun (g := F0 (xm g) pc ls (.double a :: st)) rfl (hl.1.trans G.maxL.symm) rfl (by rw [G.code]; exact dg) (by rw [G.room]; show 1 ≤ 10 + d; omega) (by rw [G.room]; show 0 + _ + _ ≤ 11000 + 64 * d; omega)
  obtain ⟨t, a1, b1⟩ := kk hD H locs ls hl hP hS (T.setVm vm') hT Y'
  exact ⟨t, st1 t a1, b1⟩
theorem vo_stD2 {p : Program} {l : Launch} {e : Env} {R : Room} {s : State} {m : MethodId} {args : Array Value} {below : List Frame} {meth : Method} {c : Code} {T : State} {locs : List Loc} {cells slots : Nat} (X : Stand p l e R s m args below meth c T locs cells slots) (hexec : p.tables.exec = Jvm.exec) {own : String} {index : Nat} {y : MethodName} {bytes : ByteArray} (hown : s.vm.findClass own = some m.cls) (hlink : (Cond.methodLink own index y).before args s = true) (hstat : (Cond.static y).before args s = true) (hinit : (Cond.initialized y.cls).before args s = true) (hcode : (Cond.code y bytes 4 (some .double)).before args s = true) (hyc : y.cls = "java/lang/Math") (hyd : y.desc = "(DD)D") {row : NativeRow} (hrow : ∀ p : Program, NativeRow.find? p.tables.natives y.cls y.name y.desc = some row) {a b v : UInt64} (hrun : ∀ (e : Env) (S : State), ∃ acts, (row.sem #[Value.double a, Value.double b]).run e S = .ok (some (.double v)) S acts)
    {g : JFrame} (hg : g.method = m) (hsize : g.locals.size = c.maxLocals) {rest : List Value} (hstack : g.stack = .double b :: .double a :: rest) (hdg : decode c.code g.pc = .ok (.invokestatic index, 3)) (hframes : 1 ≤ R.frames) (hlocals : 2 * g.monitorRoom + (rest.map fun v => v.category).sum + (4 + 11) ≤ R.locals) :
    ∃ vm', Stand p l e R s m args below meth c (T.setVm vm') locs cells slots ∧ ∀ target, Steps p.tables e below ((T.setVm vm').setTop { g with pc := g.pc + 3, stack := .double v :: rest }) target → Steps p.tables e below (T.setTop g) target := by
  obtain ⟨mk, hnamed⟩ := Cond.code_named hcode
  obtain ⟨methM, cM, hmethM, hcodeM, -, -, -, -, -, hsigM⟩ := Cond.code_spec hnamed hcode
  have hstatic : methM.isStatic = true := Cond.static_spec hnamed hmethM hstat
  obtain ⟨kP, hkP, hkname⟩ := className_of_methodNamed hnamed
  have hinitP : kP.init = .initialized := Cond.initialized_spec (findClass_of_methodNamed hnamed) hkP hinit
  have hsig2 : parseMethodDescriptor "(DD)D" = some { parameters := [.double, .double], returnType := some .double } := by decide +kernel
  have hsigX := hsigM
  rw [hyd, hsig2] at hsigX
  have hsigE := (Option.some.inj hsigX).symm
  obtain ⟨vm', X', step⟩ := X.invokestatic hexec hown hlink hnamed hmethM hstatic hkP hinitP (by rw [hyc]; decide) hg (argsL := [Value.double a, Value.double b]) (rest := rest) (by rw [hsigE]; rfl) hstack hdg
  refine ⟨vm', X', fun target hrest => step target fun acts => ?_⟩
  subst hg
  have hnamed' := X'.named hnamed
  have hcode' : (Cond.code y bytes 4 (some .double)).before args (T.setVm vm') = true := Cond.tabsOnly_warm (args' := args) (T := T.setVm vm') X'.warmed _ rfl hcode
  generalize T.setVm vm' = s9 at *
  obtain ⟨meth1, cm, hm, hc, -, hml, -, hl, -, hsig1⟩ := Cond.code_spec hnamed' hcode'
  obtain ⟨k, hk, hkn0⟩ := className_of_methodNamed hnamed'
  obtain ⟨hmn, hmd⟩ := name_of_methodNamed hnamed' hm
  have hx : k.methods[mk.idx]? = some meth1 := by simpa [Vm.method?, hk] using hm
  have hboot : k.loader = none := Vm.bootOf_findClass (findClass_of_methodNamed hnamed') hk
  have hkn : k.name = "java/lang/Math" := hkn0.trans hyc
  have htopS := X'.here.top
  obtain ⟨g₀, hg⟩ := Option.isSome_iff_exists.mp htopS
  obtain ⟨r, hr⟩ := State.topJava?_eq_some.mp hg
  obtain ⟨mid, hmid⟩ := X'.here.above
  have hcur : s9.cur < s9.threads.size := State.cur_lt_of_frames hr
  have htop : s9.setTop { g with stack := rest } = s9.setFrames (.java { g with stack := rest } :: r) := State.setTop_of_frames _ hr
  have htail : s9.frames.tail = r := by rw [hr]; rfl
  have hfull : e.platform.stackFull (s9.setTop { g with stack := rest }).me (s9.setTop { g with stack := rest }).frames cm.maxLocals = false := by rw [hml]; exact X'.notFull (g := { g with stack := rest }) hsize (vars := 4) hframes hlocals
  rw [(doInvoke_java (s := s9.setTop { g with stack := rest }) (e := e) (acts := acts) (args := #[Value.double a, Value.double b]) (meth := meth1) (code := cm) hm hc hl hfull).1, hml]
  have hU : (s9.setTop { g with stack := rest }).pushFrame (.java { method := mk, pc := 0, locals := argsToLocals #[Value.double a, Value.double b] 4, stack := [], locked := none }) = s9.setFrames (.java (entryFrame mk #[Value.double a, Value.double b] 4) :: .java { g with stack := rest } :: r) := by
    rw [State.pushFrame, State.frames_setTop _ hr, htop, State.setFrames_setFrames]
    rfl
  rw [hU]
  have hf1 : (s9.setFrames (.java (entryFrame mk #[Value.double a, Value.double b] 4) :: .java { g with stack := rest } :: r)).frames = .java (entryFrame mk #[Value.double a, Value.double b] 4) :: .java { g with stack := rest } :: r := State.frames_setFrames _ hcur
  have hov : overridden p.tables e (s9.setFrames (.java (entryFrame mk #[Value.double a, Value.double b] 4) :: .java { g with stack := rest } :: r)) (entryFrame mk #[Value.double a, Value.double b] 4) = some row :=
    vo_ov (k := k) (x := meth1) rfl hk (by rw [hkn]; decide) hboot hx (by rw [hkn0, hmn, hmd]; exact hrow p)
  have hb2 : ∀ F : List Frame, ((s9.setFrames F).vm.classes[mk.cls]?.bind fun y => y.methods[mk.idx]?) = some meth1 := by
    intro F
    show (s9.vm.classes[mk.cls]?.bind fun y => y.methods[mk.idx]?) = some meth1
    simp [hk, hx]
  have hb3 : (s9.vm.classes[mk.cls]?.bind fun x => x.methods[mk.idx]?) = some meth1 := by simp [hk, hx]
  have hparams : meth1.sig.parameters.length = 2 := by
    have h3 := hsig1
    rw [hyd, hsig2] at h3
    rw [← Option.some.inj h3]
    rfl
  have htake : ∀ n : Nat, List.take (2 + n) [Value.double a, Value.double b] = [Value.double a, Value.double b] := by
    intro n
    exact List.take_of_length_le (Nat.le_add_right 2 n)
  obtain ⟨acts₂, hr2⟩ := hrun e (s9.setFrames (.native { method := mk, args := #[Value.double a, Value.double b] } :: .java { g with stack := rest } :: r))
  have hcodeF : ∀ F : List Frame, (s9.setFrames F).code? g.method = some c := by
    intro F
    have := X'.here.code
    rw [State.code?_eq] at this ⊢
    simpa [State.setFrames] using this
  have hfs : handOver (s9.setFrames (.native { method := mk, args := #[Value.double a, Value.double b] } :: .java { g with stack := rest } :: r)) (some (.double v)) (.java { g with stack := rest } :: r) = some (.java { g with pc := g.pc + 3, stack := .double v :: rest } :: r) := by
    simp [handOver, hcodeF, hdg, Except.toOption]
  have hstep2 : (stepThread p.tables e (s9.setFrames (.java (entryFrame mk #[Value.double a, Value.double b] 4) :: .java { g with stack := rest } :: r))).1 = s9.setTop { g with pc := g.pc + 3, stack := .double v :: rest } := by
    unfold stepThread
    simp only [hf1, hov]
    simp [entryFrame, argsToLocals, Value.category, argCount, hb2, hb3, hparams, htake, hr2, afterNative]
    rw [doReturn_native (f := { method := mk, args := #[Value.double a, Value.double b] }) (below := .java { g with stack := rest } :: r) (State.frames_setFrames _ hcur) rfl hfs, State.setFrames_setFrames, ← State.setTop_of_frames _ hr]
  refine Steps.head ⟨X'.here.running, by simpa using X'.here.runnable, by simpa using X'.here.alone⟩ ⟨.java (entryFrame mk #[Value.double a, Value.double b] 4) :: .java { g with stack := rest } :: mid, by rw [hf1]; rw [hr] at hmid; simp at hmid; simp [hmid], by simp, by simp⟩ ?_
  rw [hstep2]
  exact hrest
theorem x_ovD2 {g : XG} {own : String} {cc : ByteArray} {nL d mc ms pc : Nat} {lv : List (Nat × Value)} {st : List Value} {ws : va_W} {k n : Nat} {index : Nat} {y : MethodName} {bytes : ByteArray} {row : NativeRow} {a b v : UInt64} (G : XO g own cc nL d mc ms) (hq : Cond.methodLink own index y ∈ lw_all) (hstat : Cond.static y ∈ lw_all) (hini : Cond.initialized y.cls ∈ lw_all) (hcode : Cond.code y bytes 4 (some .double) ∈ lw_all) (hyc : y.cls = "java/lang/Math") (hyd : y.desc = "(DD)D") (hrow : ∀ p : Program, NativeRow.find? p.tables.natives y.cls y.name y.desc = some row) (hrun : ∀ (e : Env) (S : State), ∃ acts, (row.sem #[Value.double a, Value.double b]).run e S = .ok (some (.double v)) S acts) (hd : 1 ≤ d) (hcat : (st.map fun v => v.category).sum ≤ 8) (dg : decode cc pc = .ok (.invokestatic index, 3)) (kk : X g nL (pc + 3) lv (.double v :: st) ws k n) : X g nL pc lv (.double b :: .double a :: st) ws k n := fun hD H locs ls hl hP hS => by
  intro T hT Y
  obtain ⟨vm', Y', st1⟩ := vo_stD2 Y G.exec G.cls (G.hts _ hq) (G.hts _ hstat) (G.hts _ hini) (G.hts _ hcode) hyc hyd hrow hrun (g := F0 (xm g) pc ls (.double b :: .double a :: st)) rfl (hl.1.trans G.maxL.symm) rfl (by rw [G.code]; exact dg) (by rw [G.room]; show 1 ≤ 10 + d; omega) (by rw [G.room]; show 0 + _ + _ ≤ 11000 + 64 * d; omega)
  obtain ⟨t, a1, b1⟩ := kk hD H locs ls hl hP hS (T.setVm vm') hT Y'
  exact ⟨t, st1 t a1, b1⟩
theorem vo_stF1 {p : Program} {l : Launch} {e : Env} {R : Room} {s : State} {m : MethodId} {args : Array Value} {below : List Frame} {meth : Method} {c : Code} {T : State} {locs : List Loc} {cells slots : Nat} (X : Stand p l e R s m args below meth c T locs cells slots) (hexec : p.tables.exec = Jvm.exec) {own : String} {index : Nat} {y : MethodName} {bytes : ByteArray} (hown : s.vm.findClass own = some m.cls) (hlink : (Cond.methodLink own index y).before args s = true) (hstat : (Cond.static y).before args s = true) (hinit : (Cond.initialized y.cls).before args s = true) (hcode : (Cond.code y bytes 1 (some .float)).before args s = true) (hyc : y.cls = "java/lang/Math") (hyd : y.desc = "(F)F") {row : NativeRow} (hrow : ∀ p : Program, NativeRow.find? p.tables.natives y.cls y.name y.desc = some row) {a v : UInt32} (hrun : ∀ (e : Env) (S : State), ∃ acts, (row.sem #[Value.float a]).run e S = .ok (some (.float v)) S acts)
    {g : JFrame} (hg : g.method = m) (hsize : g.locals.size = c.maxLocals) {rest : List Value} (hstack : g.stack = .float a :: rest) (hdg : decode c.code g.pc = .ok (.invokestatic index, 3)) (hframes : 1 ≤ R.frames) (hlocals : 2 * g.monitorRoom + (rest.map fun v => v.category).sum + (1 + 11) ≤ R.locals) :
    ∃ vm', Stand p l e R s m args below meth c (T.setVm vm') locs cells slots ∧ ∀ target, Steps p.tables e below ((T.setVm vm').setTop { g with pc := g.pc + 3, stack := .float v :: rest }) target → Steps p.tables e below (T.setTop g) target := by
  obtain ⟨mk, hnamed⟩ := Cond.code_named hcode
  obtain ⟨methM, cM, hmethM, hcodeM, -, -, -, -, -, hsigM⟩ := Cond.code_spec hnamed hcode
  have hstatic : methM.isStatic = true := Cond.static_spec hnamed hmethM hstat
  obtain ⟨kP, hkP, hkname⟩ := className_of_methodNamed hnamed
  have hinitP : kP.init = .initialized := Cond.initialized_spec (findClass_of_methodNamed hnamed) hkP hinit
  have hsig2 : parseMethodDescriptor "(F)F" = some { parameters := [.float], returnType := some .float } := by decide +kernel
  have hsigX := hsigM
  rw [hyd, hsig2] at hsigX
  have hsigE := (Option.some.inj hsigX).symm
  obtain ⟨vm', X', step⟩ := X.invokestatic hexec hown hlink hnamed hmethM hstatic hkP hinitP (by rw [hyc]; decide) hg (argsL := [Value.float a]) (rest := rest) (by rw [hsigE]; rfl) hstack hdg
  refine ⟨vm', X', fun target hrest => step target fun acts => ?_⟩
  subst hg
  have hnamed' := X'.named hnamed
  have hcode' : (Cond.code y bytes 1 (some .float)).before args (T.setVm vm') = true := Cond.tabsOnly_warm (args' := args) (T := T.setVm vm') X'.warmed _ rfl hcode
  generalize T.setVm vm' = s9 at *
  obtain ⟨meth1, cm, hm, hc, -, hml, -, hl, -, hsig1⟩ := Cond.code_spec hnamed' hcode'
  obtain ⟨k, hk, hkn0⟩ := className_of_methodNamed hnamed'
  obtain ⟨hmn, hmd⟩ := name_of_methodNamed hnamed' hm
  have hx : k.methods[mk.idx]? = some meth1 := by simpa [Vm.method?, hk] using hm
  have hboot : k.loader = none := Vm.bootOf_findClass (findClass_of_methodNamed hnamed') hk
  have hkn : k.name = "java/lang/Math" := hkn0.trans hyc
  have htopS := X'.here.top
  obtain ⟨g₀, hg⟩ := Option.isSome_iff_exists.mp htopS
  obtain ⟨r, hr⟩ := State.topJava?_eq_some.mp hg
  obtain ⟨mid, hmid⟩ := X'.here.above
  have hcur : s9.cur < s9.threads.size := State.cur_lt_of_frames hr
  have htop : s9.setTop { g with stack := rest } = s9.setFrames (.java { g with stack := rest } :: r) := State.setTop_of_frames _ hr
  have htail : s9.frames.tail = r := by rw [hr]; rfl
  have hfull : e.platform.stackFull (s9.setTop { g with stack := rest }).me (s9.setTop { g with stack := rest }).frames cm.maxLocals = false := by rw [hml]; exact X'.notFull (g := { g with stack := rest }) hsize (vars := 1) hframes hlocals
  rw [(doInvoke_java (s := s9.setTop { g with stack := rest }) (e := e) (acts := acts) (args := #[Value.float a]) (meth := meth1) (code := cm) hm hc hl hfull).1, hml]
  have hU : (s9.setTop { g with stack := rest }).pushFrame (.java { method := mk, pc := 0, locals := argsToLocals #[Value.float a] 1, stack := [], locked := none }) = s9.setFrames (.java (entryFrame mk #[Value.float a] 1) :: .java { g with stack := rest } :: r) := by
    rw [State.pushFrame, State.frames_setTop _ hr, htop, State.setFrames_setFrames]
    rfl
  rw [hU]
  have hf1 : (s9.setFrames (.java (entryFrame mk #[Value.float a] 1) :: .java { g with stack := rest } :: r)).frames = .java (entryFrame mk #[Value.float a] 1) :: .java { g with stack := rest } :: r := State.frames_setFrames _ hcur
  have hov : overridden p.tables e (s9.setFrames (.java (entryFrame mk #[Value.float a] 1) :: .java { g with stack := rest } :: r)) (entryFrame mk #[Value.float a] 1) = some row :=
    vo_ov (k := k) (x := meth1) rfl hk (by rw [hkn]; decide) hboot hx (by rw [hkn0, hmn, hmd]; exact hrow p)
  have hb2 : ∀ F : List Frame, ((s9.setFrames F).vm.classes[mk.cls]?.bind fun y => y.methods[mk.idx]?) = some meth1 := by
    intro F
    show (s9.vm.classes[mk.cls]?.bind fun y => y.methods[mk.idx]?) = some meth1
    simp [hk, hx]
  have hb3 : (s9.vm.classes[mk.cls]?.bind fun x => x.methods[mk.idx]?) = some meth1 := by simp [hk, hx]
  have hparams : meth1.sig.parameters.length = 1 := by
    have h3 := hsig1
    rw [hyd, hsig2] at h3
    rw [← Option.some.inj h3]
    rfl
  have htake : ∀ n : Nat, List.take (1 + n) [Value.float a] = [Value.float a] := by
    intro n
    exact List.take_of_length_le (Nat.le_add_right 1 n)
  obtain ⟨acts₂, hr2⟩ := hrun e (s9.setFrames (.native { method := mk, args := #[Value.float a] } :: .java { g with stack := rest } :: r))
  have hcodeF : ∀ F : List Frame, (s9.setFrames F).code? g.method = some c := by
    intro F
    have := X'.here.code
    rw [State.code?_eq] at this ⊢
    simpa [State.setFrames] using this
  have hfs : handOver (s9.setFrames (.native { method := mk, args := #[Value.float a] } :: .java { g with stack := rest } :: r)) (some (.float v)) (.java { g with stack := rest } :: r) = some (.java { g with pc := g.pc + 3, stack := .float v :: rest } :: r) := by
    simp [handOver, hcodeF, hdg, Except.toOption]
  have hstep2 : (stepThread p.tables e (s9.setFrames (.java (entryFrame mk #[Value.float a] 1) :: .java { g with stack := rest } :: r))).1 = s9.setTop { g with pc := g.pc + 3, stack := .float v :: rest } := by
    unfold stepThread
    simp only [hf1, hov]
    simp [entryFrame, argsToLocals, Value.category, argCount, hb2, hb3, hparams, htake, hr2, afterNative]
    rw [doReturn_native (f := { method := mk, args := #[Value.float a] }) (below := .java { g with stack := rest } :: r) (State.frames_setFrames _ hcur) rfl hfs, State.setFrames_setFrames, ← State.setTop_of_frames _ hr]
  refine Steps.head ⟨X'.here.running, by simpa using X'.here.runnable, by simpa using X'.here.alone⟩ ⟨.java (entryFrame mk #[Value.float a] 1) :: .java { g with stack := rest } :: mid, by rw [hf1]; rw [hr] at hmid; simp at hmid; simp [hmid], by simp, by simp⟩ ?_
  rw [hstep2]
  exact hrest
theorem x_ovF1 {g : XG} {own : String} {cc : ByteArray} {nL d mc ms pc : Nat} {lv : List (Nat × Value)} {st : List Value} {ws : va_W} {k n : Nat} {index : Nat} {y : MethodName} {bytes : ByteArray} {row : NativeRow} {a v : UInt32} (G : XO g own cc nL d mc ms) (hq : Cond.methodLink own index y ∈ lw_all) (hstat : Cond.static y ∈ lw_all) (hini : Cond.initialized y.cls ∈ lw_all) (hcode : Cond.code y bytes 1 (some .float) ∈ lw_all) (hyc : y.cls = "java/lang/Math") (hyd : y.desc = "(F)F") (hrow : ∀ p : Program, NativeRow.find? p.tables.natives y.cls y.name y.desc = some row) (hrun : ∀ (e : Env) (S : State), ∃ acts, (row.sem #[Value.float a]).run e S = .ok (some (.float v)) S acts) (hd : 1 ≤ d) (hcat : (st.map fun v => v.category).sum ≤ 8) (dg : decode cc pc = .ok (.invokestatic index, 3)) (kk : X g nL (pc + 3) lv (.float v :: st) ws k n) : X g nL pc lv (.float a :: st) ws k n := fun hD H locs ls hl hP hS => by
  intro T hT Y
  obtain ⟨vm', Y', st1⟩ := vo_stF1 Y G.exec G.cls (G.hts _ hq) (G.hts _ hstat) (G.hts _ hini) (G.hts _ hcode) hyc hyd hrow hrun (g := F0 (xm g) pc ls (.float a :: st)) rfl (hl.1.trans G.maxL.symm) rfl (by rw [G.code]; exact dg) (by rw [G.room]; show 1 ≤ 10 + d; omega) (by rw [G.room]; show 0 + _ + _ ≤ 11000 + 64 * d; omega)
  obtain ⟨t, a1, b1⟩ := kk hD H locs ls hl hP hS (T.setVm vm') hT Y'
  exact ⟨t, st1 t a1, b1⟩
theorem vo_stF2 {p : Program} {l : Launch} {e : Env} {R : Room} {s : State} {m : MethodId} {args : Array Value} {below : List Frame} {meth : Method} {c : Code} {T : State} {locs : List Loc} {cells slots : Nat} (X : Stand p l e R s m args below meth c T locs cells slots) (hexec : p.tables.exec = Jvm.exec) {own : String} {index : Nat} {y : MethodName} {bytes : ByteArray} (hown : s.vm.findClass own = some m.cls) (hlink : (Cond.methodLink own index y).before args s = true) (hstat : (Cond.static y).before args s = true) (hinit : (Cond.initialized y.cls).before args s = true) (hcode : (Cond.code y bytes 2 (some .float)).before args s = true) (hyc : y.cls = "java/lang/Math") (hyd : y.desc = "(FF)F") {row : NativeRow} (hrow : ∀ p : Program, NativeRow.find? p.tables.natives y.cls y.name y.desc = some row) {a b v : UInt32} (hrun : ∀ (e : Env) (S : State), ∃ acts, (row.sem #[Value.float a, Value.float b]).run e S = .ok (some (.float v)) S acts)
    {g : JFrame} (hg : g.method = m) (hsize : g.locals.size = c.maxLocals) {rest : List Value} (hstack : g.stack = .float b :: .float a :: rest) (hdg : decode c.code g.pc = .ok (.invokestatic index, 3)) (hframes : 1 ≤ R.frames) (hlocals : 2 * g.monitorRoom + (rest.map fun v => v.category).sum + (2 + 11) ≤ R.locals) :
    ∃ vm', Stand p l e R s m args below meth c (T.setVm vm') locs cells slots ∧ ∀ target, Steps p.tables e below ((T.setVm vm').setTop { g with pc := g.pc + 3, stack := .float v :: rest }) target → Steps p.tables e below (T.setTop g) target := by
  obtain ⟨mk, hnamed⟩ := Cond.code_named hcode
  obtain ⟨methM, cM, hmethM, hcodeM, -, -, -, -, -, hsigM⟩ := Cond.code_spec hnamed hcode
  have hstatic : methM.isStatic = true := Cond.static_spec hnamed hmethM hstat
  obtain ⟨kP, hkP, hkname⟩ := className_of_methodNamed hnamed
  have hinitP : kP.init = .initialized := Cond.initialized_spec (findClass_of_methodNamed hnamed) hkP hinit
  have hsig2 : parseMethodDescriptor "(FF)F" = some { parameters := [.float, .float], returnType := some .float } := by decide +kernel
  have hsigX := hsigM
  rw [hyd, hsig2] at hsigX
  have hsigE := (Option.some.inj hsigX).symm
  obtain ⟨vm', X', step⟩ := X.invokestatic hexec hown hlink hnamed hmethM hstatic hkP hinitP (by rw [hyc]; decide) hg (argsL := [Value.float a, Value.float b]) (rest := rest) (by rw [hsigE]; rfl) hstack hdg
  refine ⟨vm', X', fun target hrest => step target fun acts => ?_⟩
  subst hg
  have hnamed' := X'.named hnamed
  have hcode' : (Cond.code y bytes 2 (some .float)).before args (T.setVm vm') = true := Cond.tabsOnly_warm (args' := args) (T := T.setVm vm') X'.warmed _ rfl hcode
  generalize T.setVm vm' = s9 at *
  obtain ⟨meth1, cm, hm, hc, -, hml, -, hl, -, hsig1⟩ := Cond.code_spec hnamed' hcode'
  obtain ⟨k, hk, hkn0⟩ := className_of_methodNamed hnamed'
  obtain ⟨hmn, hmd⟩ := name_of_methodNamed hnamed' hm
  have hx : k.methods[mk.idx]? = some meth1 := by simpa [Vm.method?, hk] using hm
  have hboot : k.loader = none := Vm.bootOf_findClass (findClass_of_methodNamed hnamed') hk
  have hkn : k.name = "java/lang/Math" := hkn0.trans hyc
  have htopS := X'.here.top
  obtain ⟨g₀, hg⟩ := Option.isSome_iff_exists.mp htopS
  obtain ⟨r, hr⟩ := State.topJava?_eq_some.mp hg
  obtain ⟨mid, hmid⟩ := X'.here.above
  have hcur : s9.cur < s9.threads.size := State.cur_lt_of_frames hr
  have htop : s9.setTop { g with stack := rest } = s9.setFrames (.java { g with stack := rest } :: r) := State.setTop_of_frames _ hr
  have htail : s9.frames.tail = r := by rw [hr]; rfl
  have hfull : e.platform.stackFull (s9.setTop { g with stack := rest }).me (s9.setTop { g with stack := rest }).frames cm.maxLocals = false := by rw [hml]; exact X'.notFull (g := { g with stack := rest }) hsize (vars := 2) hframes hlocals
  rw [(doInvoke_java (s := s9.setTop { g with stack := rest }) (e := e) (acts := acts) (args := #[Value.float a, Value.float b]) (meth := meth1) (code := cm) hm hc hl hfull).1, hml]
  have hU : (s9.setTop { g with stack := rest }).pushFrame (.java { method := mk, pc := 0, locals := argsToLocals #[Value.float a, Value.float b] 2, stack := [], locked := none }) = s9.setFrames (.java (entryFrame mk #[Value.float a, Value.float b] 2) :: .java { g with stack := rest } :: r) := by
    rw [State.pushFrame, State.frames_setTop _ hr, htop, State.setFrames_setFrames]
    rfl
  rw [hU]
  have hf1 : (s9.setFrames (.java (entryFrame mk #[Value.float a, Value.float b] 2) :: .java { g with stack := rest } :: r)).frames = .java (entryFrame mk #[Value.float a, Value.float b] 2) :: .java { g with stack := rest } :: r := State.frames_setFrames _ hcur
  have hov : overridden p.tables e (s9.setFrames (.java (entryFrame mk #[Value.float a, Value.float b] 2) :: .java { g with stack := rest } :: r)) (entryFrame mk #[Value.float a, Value.float b] 2) = some row :=
    vo_ov (k := k) (x := meth1) rfl hk (by rw [hkn]; decide) hboot hx (by rw [hkn0, hmn, hmd]; exact hrow p)
  have hb2 : ∀ F : List Frame, ((s9.setFrames F).vm.classes[mk.cls]?.bind fun y => y.methods[mk.idx]?) = some meth1 := by
    intro F
    show (s9.vm.classes[mk.cls]?.bind fun y => y.methods[mk.idx]?) = some meth1
    simp [hk, hx]
  have hb3 : (s9.vm.classes[mk.cls]?.bind fun x => x.methods[mk.idx]?) = some meth1 := by simp [hk, hx]
  have hparams : meth1.sig.parameters.length = 2 := by
    have h3 := hsig1
    rw [hyd, hsig2] at h3
    rw [← Option.some.inj h3]
    rfl
  have htake : ∀ n : Nat, List.take (2 + n) [Value.float a, Value.float b] = [Value.float a, Value.float b] := by
    intro n
    exact List.take_of_length_le (Nat.le_add_right 2 n)
  obtain ⟨acts₂, hr2⟩ := hrun e (s9.setFrames (.native { method := mk, args := #[Value.float a, Value.float b] } :: .java { g with stack := rest } :: r))
  have hcodeF : ∀ F : List Frame, (s9.setFrames F).code? g.method = some c := by
    intro F
    have := X'.here.code
    rw [State.code?_eq] at this ⊢
    simpa [State.setFrames] using this
  have hfs : handOver (s9.setFrames (.native { method := mk, args := #[Value.float a, Value.float b] } :: .java { g with stack := rest } :: r)) (some (.float v)) (.java { g with stack := rest } :: r) = some (.java { g with pc := g.pc + 3, stack := .float v :: rest } :: r) := by
    simp [handOver, hcodeF, hdg, Except.toOption]
  have hstep2 : (stepThread p.tables e (s9.setFrames (.java (entryFrame mk #[Value.float a, Value.float b] 2) :: .java { g with stack := rest } :: r))).1 = s9.setTop { g with pc := g.pc + 3, stack := .float v :: rest } := by
    unfold stepThread
    simp only [hf1, hov]
    simp [entryFrame, argsToLocals, Value.category, argCount, hb2, hb3, hparams, htake, hr2, afterNative]
    rw [doReturn_native (f := { method := mk, args := #[Value.float a, Value.float b] }) (below := .java { g with stack := rest } :: r) (State.frames_setFrames _ hcur) rfl hfs, State.setFrames_setFrames, ← State.setTop_of_frames _ hr]
  refine Steps.head ⟨X'.here.running, by simpa using X'.here.runnable, by simpa using X'.here.alone⟩ ⟨.java (entryFrame mk #[Value.float a, Value.float b] 2) :: .java { g with stack := rest } :: mid, by rw [hf1]; rw [hr] at hmid; simp at hmid; simp [hmid], by simp, by simp⟩ ?_
  rw [hstep2]
  exact hrest
theorem x_ovF2 {g : XG} {own : String} {cc : ByteArray} {nL d mc ms pc : Nat} {lv : List (Nat × Value)} {st : List Value} {ws : va_W} {k n : Nat} {index : Nat} {y : MethodName} {bytes : ByteArray} {row : NativeRow} {a b v : UInt32} (G : XO g own cc nL d mc ms) (hq : Cond.methodLink own index y ∈ lw_all) (hstat : Cond.static y ∈ lw_all) (hini : Cond.initialized y.cls ∈ lw_all) (hcode : Cond.code y bytes 2 (some .float) ∈ lw_all) (hyc : y.cls = "java/lang/Math") (hyd : y.desc = "(FF)F") (hrow : ∀ p : Program, NativeRow.find? p.tables.natives y.cls y.name y.desc = some row) (hrun : ∀ (e : Env) (S : State), ∃ acts, (row.sem #[Value.float a, Value.float b]).run e S = .ok (some (.float v)) S acts) (hd : 1 ≤ d) (hcat : (st.map fun v => v.category).sum ≤ 8) (dg : decode cc pc = .ok (.invokestatic index, 3)) (kk : X g nL (pc + 3) lv (.float v :: st) ws k n) : X g nL pc lv (.float b :: .float a :: st) ws k n := fun hD H locs ls hl hP hS => by
  intro T hT Y
  obtain ⟨vm', Y', st1⟩ := vo_stF2 Y G.exec G.cls (G.hts _ hq) (G.hts _ hstat) (G.hts _ hini) (G.hts _ hcode) hyc hyd hrow hrun (g := F0 (xm g) pc ls (.float b :: .float a :: st)) rfl (hl.1.trans G.maxL.symm) rfl (by rw [G.code]; exact dg) (by rw [G.room]; show 1 ≤ 10 + d; omega) (by rw [G.room]; show 0 + _ + _ ≤ 11000 + 64 * d; omega)
  obtain ⟨t, a1, b1⟩ := kk hD H locs ls hl hP hS (T.setVm vm') hT Y'
  exact ⟨t, st1 t a1, b1⟩
def mAbs (a : UInt64) : UInt64 := a &&& 0x7fffffffffffffff
def mAbsF (a : UInt32) : UInt32 := a &&& 0x7fffffff
def mMax (a b : UInt64) : UInt64 := Jvm.Native.java_lang_Math.nans.pick64 true a b
def mMin (a b : UInt64) : UInt64 := Jvm.Native.java_lang_Math.nans.pick64 false a b
def mMaxF (a b : UInt32) : UInt32 := Jvm.Native.java_lang_Math.nans.pick32 true a b
def mMinF (a b : UInt32) : UInt32 := Jvm.Native.java_lang_Math.nans.pick32 false a b
def mSig (a : UInt64) : UInt64 := if a <<< 1 == 0 then a else (a &&& 0x8000000000000000) ||| 0x3ff0000000000000
def mSigF (a : UInt32) : UInt32 := if a <<< 1 == 0 then a else (a &&& 0x80000000) ||| 0x3f800000
def mCps (a b : UInt64) : UInt64 := (a &&& 0x7fffffffffffffff) ||| (if b >>> 63 == 1 then 0x8000000000000000 else 0)
def mCpsF (a b : UInt32) : UInt32 := (a &&& 0x7fffffff) ||| (if b >>> 31 == 1 then 0x80000000 else 0)
def rmAbs : NativeRow := (NativeRow.find? Jvm.Native.java_lang_Math.nans.rows "java/lang/Math" "abs" "(D)D").get (by decide +kernel)
set_option maxRecDepth 100000 in
theorem rmAbs_row (p : Program) : NativeRow.find? p.tables.natives "java/lang/Math" "abs" "(D)D" = some rmAbs := by
  cases p <;> rfl
theorem rmAbs_run {a : UInt64} (ha : vf_n64 a) (e : Env) (S : State) : ∃ acts, (rmAbs.sem #[.double a]).run e S = .ok (some (.double (mAbs a))) S acts := by
  have hsem : rmAbs.sem #[.double a] = (do
      let r ← anyNaN64 (a &&& 0x7fffffffffffffff)
      mark "nat.java_lang_Math.abs"
      Pure.pure (some (.double r))) := rfl
  have hn : (a &&& 0x7fffffffffffffff) &&& 0x7fffffffffffffff ≤ 0x7ff0000000000000 := by rw [UInt64.and_assoc, UInt64.and_self]; exact ha
  have hw : wpRun (rmAbs.sem #[.double a]) (fun v s₂ _ => v = some (.double (mAbs a)) ∧ s₂ = S) (fun _ _ _ => False) e S := by
    rw [hsem]
    simp [jvm, wpRun, anyNaN64, hn, mAbs]
  have hw' := (wpRun_iff_run _ _ _ _ _).mp hw
  cases hr : (rmAbs.sem #[.double a]).run e S with
  | ok v s₂ acts₂ => rw [hr] at hw'; obtain ⟨rfl, rfl⟩ := hw'; exact ⟨_, rfl⟩
  | ctl x s₂ acts₂ => rw [hr] at hw'; cases x <;> exact hw'.elim
def rmAbsF : NativeRow := (NativeRow.find? Jvm.Native.java_lang_Math.nans.rows "java/lang/Math" "abs" "(F)F").get (by decide +kernel)
set_option maxRecDepth 100000 in
theorem rmAbsF_row (p : Program) : NativeRow.find? p.tables.natives "java/lang/Math" "abs" "(F)F" = some rmAbsF := by
  cases p <;> rfl
theorem rmAbsF_run {a : UInt32} (ha : vf_n32 a) (e : Env) (S : State) : ∃ acts, (rmAbsF.sem #[.float a]).run e S = .ok (some (.float (mAbsF a))) S acts := by
  have hsem : rmAbsF.sem #[.float a] = (do
      let r ← anyNaN32 (a &&& 0x7fffffff)
      mark "nat.java_lang_Math.abs/float"
      Pure.pure (some (.float r))) := rfl
  have hn : (a &&& 0x7fffffff) &&& 0x7fffffff ≤ 0x7f800000 := by rw [UInt32.and_assoc, UInt32.and_self]; exact ha
  have hw : wpRun (rmAbsF.sem #[.float a]) (fun v s₂ _ => v = some (.float (mAbsF a)) ∧ s₂ = S) (fun _ _ _ => False) e S := by
    rw [hsem]
    simp [jvm, wpRun, anyNaN32, hn, mAbsF]
  have hw' := (wpRun_iff_run _ _ _ _ _).mp hw
  cases hr : (rmAbsF.sem #[.float a]).run e S with
  | ok v s₂ acts₂ => rw [hr] at hw'; obtain ⟨rfl, rfl⟩ := hw'; exact ⟨_, rfl⟩
  | ctl x s₂ acts₂ => rw [hr] at hw'; cases x <;> exact hw'.elim
def rmMax : NativeRow := (NativeRow.find? Jvm.Native.java_lang_Math.nans.rows "java/lang/Math" "max" "(DD)D").get (by decide +kernel)
set_option maxRecDepth 100000 in
theorem rmMax_row (p : Program) : NativeRow.find? p.tables.natives "java/lang/Math" "max" "(DD)D" = some rmMax := by
  cases p <;> rfl
theorem rmMax_run {a b : UInt64} (ha : FP.dIsNaN a = false) (hb : FP.dIsNaN b = false) (e : Env) (S : State) : ∃ acts, (rmMax.sem #[.double a, .double b]).run e S = .ok (some (.double (mMax a b))) S acts := by
  have hsem : rmMax.sem #[.double a, .double b] = (do
      let r ← if FP.dIsNaN a then anyNaN64 a else if FP.dIsNaN b then anyNaN64 b else Pure.pure (mMax a b)
      mark "nat.java_lang_Math.max"
      Pure.pure (some (.double r))) := rfl
  have hw : wpRun (rmMax.sem #[.double a, .double b]) (fun v s₂ _ => v = some (.double (mMax a b)) ∧ s₂ = S) (fun _ _ _ => False) e S := by
    rw [hsem]
    simp [jvm, wpRun, ha, hb, mMax]
  have hw' := (wpRun_iff_run _ _ _ _ _).mp hw
  cases hr : (rmMax.sem #[.double a, .double b]).run e S with
  | ok v s₂ acts₂ => rw [hr] at hw'; obtain ⟨rfl, rfl⟩ := hw'; exact ⟨_, rfl⟩
  | ctl x s₂ acts₂ => rw [hr] at hw'; cases x <;> exact hw'.elim
def rmMaxF : NativeRow := (NativeRow.find? Jvm.Native.java_lang_Math.nans.rows "java/lang/Math" "max" "(FF)F").get (by decide +kernel)
set_option maxRecDepth 100000 in
theorem rmMaxF_row (p : Program) : NativeRow.find? p.tables.natives "java/lang/Math" "max" "(FF)F" = some rmMaxF := by
  cases p <;> rfl
theorem rmMaxF_run {a b : UInt32} (ha : FP.fIsNaN a = false) (hb : FP.fIsNaN b = false) (e : Env) (S : State) : ∃ acts, (rmMaxF.sem #[.float a, .float b]).run e S = .ok (some (.float (mMaxF a b))) S acts := by
  have hsem : rmMaxF.sem #[.float a, .float b] = (do
      let r ← if FP.fIsNaN a then anyNaN32 a else if FP.fIsNaN b then anyNaN32 b else Pure.pure (mMaxF a b)
      mark "nat.java_lang_Math.max/float"
      Pure.pure (some (.float r))) := rfl
  have hw : wpRun (rmMaxF.sem #[.float a, .float b]) (fun v s₂ _ => v = some (.float (mMaxF a b)) ∧ s₂ = S) (fun _ _ _ => False) e S := by
    rw [hsem]
    simp [jvm, wpRun, ha, hb, mMaxF]
  have hw' := (wpRun_iff_run _ _ _ _ _).mp hw
  cases hr : (rmMaxF.sem #[.float a, .float b]).run e S with
  | ok v s₂ acts₂ => rw [hr] at hw'; obtain ⟨rfl, rfl⟩ := hw'; exact ⟨_, rfl⟩
  | ctl x s₂ acts₂ => rw [hr] at hw'; cases x <;> exact hw'.elim
def rmMin : NativeRow := (NativeRow.find? Jvm.Native.java_lang_Math.nans.rows "java/lang/Math" "min" "(DD)D").get (by decide +kernel)
set_option maxRecDepth 100000 in
theorem rmMin_row (p : Program) : NativeRow.find? p.tables.natives "java/lang/Math" "min" "(DD)D" = some rmMin := by
  cases p <;> rfl
theorem rmMin_run {a b : UInt64} (ha : FP.dIsNaN a = false) (hb : FP.dIsNaN b = false) (e : Env) (S : State) : ∃ acts, (rmMin.sem #[.double a, .double b]).run e S = .ok (some (.double (mMin a b))) S acts := by
  have hsem : rmMin.sem #[.double a, .double b] = (do
      let r ← if FP.dIsNaN a then anyNaN64 a else if FP.dIsNaN b then anyNaN64 b else Pure.pure (mMin a b)
      mark "nat.java_lang_Math.min"
      Pure.pure (some (.double r))) := rfl
  have hw : wpRun (rmMin.sem #[.double a, .double b]) (fun v s₂ _ => v = some (.double (mMin a b)) ∧ s₂ = S) (fun _ _ _ => False) e S := by
    rw [hsem]
    simp [jvm, wpRun, ha, hb, mMin]
  have hw' := (wpRun_iff_run _ _ _ _ _).mp hw
  cases hr : (rmMin.sem #[.double a, .double b]).run e S with
  | ok v s₂ acts₂ => rw [hr] at hw'; obtain ⟨rfl, rfl⟩ := hw'; exact ⟨_, rfl⟩
  | ctl x s₂ acts₂ => rw [hr] at hw'; cases x <;> exact hw'.elim
def rmMinF : NativeRow := (NativeRow.find? Jvm.Native.java_lang_Math.nans.rows "java/lang/Math" "min" "(FF)F").get (by decide +kernel)
set_option maxRecDepth 100000 in
theorem rmMinF_row (p : Program) : NativeRow.find? p.tables.natives "java/lang/Math" "min" "(FF)F" = some rmMinF := by
  cases p <;> rfl
theorem rmMinF_run {a b : UInt32} (ha : FP.fIsNaN a = false) (hb : FP.fIsNaN b = false) (e : Env) (S : State) : ∃ acts, (rmMinF.sem #[.float a, .float b]).run e S = .ok (some (.float (mMinF a b))) S acts := by
  have hsem : rmMinF.sem #[.float a, .float b] = (do
      let r ← if FP.fIsNaN a then anyNaN32 a else if FP.fIsNaN b then anyNaN32 b else Pure.pure (mMinF a b)
      mark "nat.java_lang_Math.min/float"
      Pure.pure (some (.float r))) := rfl
  have hw : wpRun (rmMinF.sem #[.float a, .float b]) (fun v s₂ _ => v = some (.float (mMinF a b)) ∧ s₂ = S) (fun _ _ _ => False) e S := by
    rw [hsem]
    simp [jvm, wpRun, ha, hb, mMinF]
  have hw' := (wpRun_iff_run _ _ _ _ _).mp hw
  cases hr : (rmMinF.sem #[.float a, .float b]).run e S with
  | ok v s₂ acts₂ => rw [hr] at hw'; obtain ⟨rfl, rfl⟩ := hw'; exact ⟨_, rfl⟩
  | ctl x s₂ acts₂ => rw [hr] at hw'; cases x <;> exact hw'.elim
def rmSig : NativeRow := (NativeRow.find? Jvm.Native.java_lang_Math.nans.rows "java/lang/Math" "signum" "(D)D").get (by decide +kernel)
set_option maxRecDepth 100000 in
theorem rmSig_row (p : Program) : NativeRow.find? p.tables.natives "java/lang/Math" "signum" "(D)D" = some rmSig := by
  cases p <;> rfl
theorem rmSig_run {a : UInt64} (ha : FP.dIsNaN a = false) (e : Env) (S : State) : ∃ acts, (rmSig.sem #[.double a]).run e S = .ok (some (.double (mSig a))) S acts := by
  have hsem : rmSig.sem #[.double a] = (do
      let r ← if FP.dIsNaN a then anyNaN64 a else Pure.pure (mSig a)
      mark "nat.java_lang_Math.signum"
      Pure.pure (some (.double r))) := rfl
  have hw : wpRun (rmSig.sem #[.double a]) (fun v s₂ _ => v = some (.double (mSig a)) ∧ s₂ = S) (fun _ _ _ => False) e S := by
    rw [hsem]
    simp [jvm, wpRun, ha, mSig]
  have hw' := (wpRun_iff_run _ _ _ _ _).mp hw
  cases hr : (rmSig.sem #[.double a]).run e S with
  | ok v s₂ acts₂ => rw [hr] at hw'; obtain ⟨rfl, rfl⟩ := hw'; exact ⟨_, rfl⟩
  | ctl x s₂ acts₂ => rw [hr] at hw'; cases x <;> exact hw'.elim
def rmSigF : NativeRow := (NativeRow.find? Jvm.Native.java_lang_Math.nans.rows "java/lang/Math" "signum" "(F)F").get (by decide +kernel)
set_option maxRecDepth 100000 in
theorem rmSigF_row (p : Program) : NativeRow.find? p.tables.natives "java/lang/Math" "signum" "(F)F" = some rmSigF := by
  cases p <;> rfl
theorem rmSigF_run {a : UInt32} (ha : FP.fIsNaN a = false) (e : Env) (S : State) : ∃ acts, (rmSigF.sem #[.float a]).run e S = .ok (some (.float (mSigF a))) S acts := by
  have hsem : rmSigF.sem #[.float a] = (do
      let r ← if FP.fIsNaN a then anyNaN32 a else Pure.pure (mSigF a)
      mark "nat.java_lang_Math.signum/float"
      Pure.pure (some (.float r))) := rfl
  have hw : wpRun (rmSigF.sem #[.float a]) (fun v s₂ _ => v = some (.float (mSigF a)) ∧ s₂ = S) (fun _ _ _ => False) e S := by
    rw [hsem]
    simp [jvm, wpRun, ha, mSigF]
  have hw' := (wpRun_iff_run _ _ _ _ _).mp hw
  cases hr : (rmSigF.sem #[.float a]).run e S with
  | ok v s₂ acts₂ => rw [hr] at hw'; obtain ⟨rfl, rfl⟩ := hw'; exact ⟨_, rfl⟩
  | ctl x s₂ acts₂ => rw [hr] at hw'; cases x <;> exact hw'.elim
def rmCps : NativeRow := (NativeRow.find? Jvm.Native.java_lang_Math.nans.rows "java/lang/Math" "copySign" "(DD)D").get (by decide +kernel)
set_option maxRecDepth 100000 in
theorem rmCps_row (p : Program) : NativeRow.find? p.tables.natives "java/lang/Math" "copySign" "(DD)D" = some rmCps := by
  cases p <;> rfl
theorem rmCps_run {a b : UInt64} (hb : FP.dIsNaN b = false) (e : Env) (S : State) : ∃ acts, (rmCps.sem #[.double a, .double b]).run e S = .ok (some (.double (mCps a b))) S acts := by
  have hsem : rmCps.sem #[.double a, .double b] = (do
      let negative ← Jvm.Native.java_lang_Math.nans.signOf (FP.dIsNaN b) (b >>> 63 == 1)
      mark "nat.java_lang_Math.copySign"
      Pure.pure (some (.double ((a &&& 0x7fffffffffffffff) ||| (if negative then 0x8000000000000000 else 0))))) := rfl
  have hw : wpRun (rmCps.sem #[.double a, .double b]) (fun v s₂ _ => v = some (.double (mCps a b)) ∧ s₂ = S) (fun _ _ _ => False) e S := by
    rw [hsem]
    simp [jvm, wpRun, hb, Jvm.Native.java_lang_Math.nans.signOf, mCps]
  have hw' := (wpRun_iff_run _ _ _ _ _).mp hw
  cases hr : (rmCps.sem #[.double a, .double b]).run e S with
  | ok v s₂ acts₂ => rw [hr] at hw'; obtain ⟨rfl, rfl⟩ := hw'; exact ⟨_, rfl⟩
  | ctl x s₂ acts₂ => rw [hr] at hw'; cases x <;> exact hw'.elim
def rmCpsF : NativeRow := (NativeRow.find? Jvm.Native.java_lang_Math.nans.rows "java/lang/Math" "copySign" "(FF)F").get (by decide +kernel)
set_option maxRecDepth 100000 in
theorem rmCpsF_row (p : Program) : NativeRow.find? p.tables.natives "java/lang/Math" "copySign" "(FF)F" = some rmCpsF := by
  cases p <;> rfl
theorem rmCpsF_run {a b : UInt32} (hb : FP.fIsNaN b = false) (e : Env) (S : State) : ∃ acts, (rmCpsF.sem #[.float a, .float b]).run e S = .ok (some (.float (mCpsF a b))) S acts := by
  have hsem : rmCpsF.sem #[.float a, .float b] = (do
      let negative ← Jvm.Native.java_lang_Math.nans.signOf (FP.fIsNaN b) (b >>> 31 == 1)
      mark "nat.java_lang_Math.copySign/float"
      Pure.pure (some (.float ((a &&& 0x7fffffff) ||| (if negative then 0x80000000 else 0))))) := rfl
  have hw : wpRun (rmCpsF.sem #[.float a, .float b]) (fun v s₂ _ => v = some (.float (mCpsF a b)) ∧ s₂ = S) (fun _ _ _ => False) e S := by
    rw [hsem]
    simp [jvm, wpRun, hb, Jvm.Native.java_lang_Math.nans.signOf, mCpsF]
  have hw' := (wpRun_iff_run _ _ _ _ _).mp hw
  cases hr : (rmCpsF.sem #[.float a, .float b]).run e S with
  | ok v s₂ acts₂ => rw [hr] at hw'; obtain ⟨rfl, rfl⟩ := hw'; exact ⟨_, rfl⟩
  | ctl x s₂ acts₂ => rw [hr] at hw'; cases x <;> exact hw'.elim
