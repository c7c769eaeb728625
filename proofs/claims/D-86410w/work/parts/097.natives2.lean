/-! Math.ceil, floor, rint: the machine's table of natives calls StrictMath's. Printed by gen/natives2.py (after the technique of the library's law of Math.ceil) -/
theorem vo_resumed {tb : Tables} {e : Env} {s : State} {f : NFrame} {rest : List Frame} {k : Class} {x : Method} {row : NativeRow} {o : Outcome} (hf : s.frames = .native f :: rest) (hk : s.vm.classes[f.method.cls]? = some k) (hboot : k.loader = none) (hx : k.methods[f.method.idx]? = some x) (hrow : NativeRow.find? tb.natives k.name x.name x.desc = some row) (ha : f.answer = some o) : stepThread tb e s = afterNative e f rest ((row.resume f.stage f.saved o).run e s) := by
  unfold stepThread
  simp only [hf, hk, hx, hrow, ha, hboot, Option.bind_eq_bind, Option.bind_some, Option.pure_def, Option.isNone_none, if_true]
theorem vo_bytes (s : State) (F : List Frame) : (s.setFrames F).me.stackBytes = s.me.stackBytes := by
  unfold State.me State.setFrames
  simp only [Array.getElem?_modify]
  cases s.threads[s.cur]? <;> simp
/-- room under a frame of a native -/
theorem vo_room {s : State} {pl : Platform} {m : MethodId} {a : Array Value} {nf : NFrame} {g : JFrame} {r : List Frame} {F L C Sl : Nat} (hcur : s.cur < s.threads.size) (hw : nf.words ≤ 1024) (h : (s.setFrames (.invoking m a :: .java g :: r)).hasRoom pl { frames := F + 1, locals := L + 1024, cells := C, slots := Sl } = true) : (s.setFrames (.invoking m a :: .native nf :: .java g :: r)).hasRoom pl { frames := F, locals := L, cells := C, slots := Sl } = true := by
  have hwt : Frame.weight (.native nf) = 1024 := by show max nf.words vmFrameWords = 1024; unfold vmFrameWords; omega
  simp only [State.hasRoom, Bool.and_eq_true, decide_eq_true_eq, State.frames_setFrames _ hcur, State.stackLimits_setFrames, vo_bytes, State.localsInUse, stackWeight, List.map_cons, List.sum_cons, List.length_cons, hwt] at h ⊢
  obtain ⟨⟨⟨⟨a0, a1, a2, a3, a4, a5⟩, b1⟩, c1⟩, d1⟩ := h
  have e : (s.setFrames (.invoking m a :: .native nf :: .java g :: r)).vm = (s.setFrames (.invoking m a :: .java g :: r)).vm := rfl
  refine ⟨⟨⟨⟨?_, by omega, by omega, ?_, ?_, a5⟩, b1⟩, c1⟩, d1⟩ <;> (rw [e]; omega)
set_option maxHeartbeats 1000000 in
theorem vo_runQ {p : Program} {l : Launch} {e : Env} {R : Room} {s : State} {m : MethodId} {args : Array Value} {below : List Frame} {meth : Method} {c : Code} {H : Heap} {locs : List Loc} {cells slots : Nat} {own nm : String} {index n2 nL : Nat} {cc bytes1 bytes2 : ByteArray} {rm : Room} {ws : List Cond} {Pc : Array Value → State → Prop} {Qc : Array Value → State → Outcome → State → Prop} {free : Addr → Prop} {row : NativeRow}
    (hexec : p.tables.exec = Jvm.exec) (hb : c.code = cc) (hml : c.maxLocals = nL) (hown : s.vm.findClass own = some m.cls)
    (hlink : (Cond.methodLink own index ⟨"java/lang/Math", nm, "(D)D"⟩).before args s = true) (hstat : (Cond.static ⟨"java/lang/Math", nm, "(D)D"⟩).before args s = true) (hini1 : (Cond.initialized "java/lang/Math").before args s = true) (hcode1 : (Cond.code ⟨"java/lang/Math", nm, "(D)D"⟩ bytes1 2 (some .double)).before args s = true)
    (hini2 : (Cond.initialized "java/lang/StrictMath").before args s = true) (hcode2 : (Cond.code ⟨"java/lang/StrictMath", nm, "(D)D"⟩ bytes2 n2 (some .double)).before args s = true)
    (hM : Met l ⟨"java/lang/StrictMath", nm, "(D)D"⟩ ws rm Pc Qc 0 0 free) (hrc : rm.cells = 0) (hrs : rm.slots = 0) (hfr : rm.frames + 2 ≤ R.frames) (hlo : 8 + (n2 + 11) + 1044 + rm.locals ≤ R.locals) (hlo1 : 40 ≤ R.locals)
    (hws : ∀ w ∈ ws, ∀ (a' : Array Value) (U : State), s.WarmedH U.vm → w.before a' U = true)
    (hrow : ∀ p : Program, NativeRow.find? p.tables.natives "java/lang/Math" nm "(D)D" = some row)
    (hsem : ∀ (b : UInt64) (e : Env) (S : State) {cS : ClassId} {kS : Class} {i : Nat}, S.vm.findClass "java/lang/StrictMath" = some cS → S.vm.classes[cS]? = some kS → kS.init = .initialized → kS.findMethod nm "(D)D" = some i → ∃ acts, (row.sem #[.double b]).run e S = .ctl (.call ⟨cS, i⟩ #[.double b] 1 #[]) S acts)
    (hres : ∀ (r : UInt64) (e : Env) (S : State), vf_n64 r → ∃ acts, (row.resume 1 #[] (.returned (some (.double r)))).run e S = .ok (some (.double r)) S acts)
    {b : UInt64} (hPc : ∀ U : State, U.heap = H → s.WarmedH U.vm → Pc #[.double b] U) (hQ : ∀ st o t, Qc #[.double b] st o t → ∃ r, o = .returned (some (.double r)) ∧ vf_n64 r)
    {g : JFrame} {rest : List Value} (hg : g.method = m) (hsize : g.locals.size = nL) (hstack : g.stack = .double b :: rest) (hW : 2 * g.monitorRoom + (rest.map fun v => v.category).sum ≤ 8) (hdg : decode cc g.pc = .ok (.invokestatic index, 3)) (hf : cells ≤ R.cells ∧ slots ≤ R.slots) (hnm : nm ∈ ["ceil", "floor", "rint"]) :
    va_Run p l e R s m args below meth c H locs cells slots 0 0 g rest (Qc #[.double b]) free := by
  intro T hT X
  subst hb
  obtain ⟨mk, hnamed⟩ := Cond.code_named hcode1
  obtain ⟨methM, cM, hmethM, hcodeM, -, -, -, -, -, hsigM⟩ := Cond.code_spec hnamed hcode1
  have hstatic : methM.isStatic = true := Cond.static_spec hnamed hmethM hstat
  obtain ⟨kP, hkP, hkname⟩ := className_of_methodNamed hnamed
  have hinitP : kP.init = .initialized := Cond.initialized_spec (findClass_of_methodNamed hnamed) hkP hini1
  have hsig2 : parseMethodDescriptor "(D)D" = some { parameters := [.double], returnType := some .double } := by decide +kernel
  have hsigX : some { parameters := [.double], returnType := some .double } = some methM.sig := hsig2.symm.trans hsigM
  have hsigE := (Option.some.inj hsigX).symm
  obtain ⟨vm', X', step⟩ := X.invokestatic hexec hown hlink hnamed hmethM hstatic hkP hinitP ⟨(by decide : ("java/lang/Math" : String) ≠ _), (by decide : ("java/lang/Math" : String) ≠ _)⟩ hg (argsL := [Value.double b]) (rest := rest) (by rw [hsigE]; rfl) hstack hdg
  have hUh : (T.setVm vm').heap = H := hT
  have hnamed' := X'.named hnamed
  have hcode' := Cond.tabsOnly_warm (args' := args) (T := T.setVm vm') X'.warmed _ rfl hcode1
  have hcode2' := Cond.tabsOnly_warm (args' := args) (T := T.setVm vm') X'.warmed _ rfl hcode2
  have hini2' := Cond.tabsOnly_warm (args' := args) (T := T.setVm vm') X'.warmed _ rfl hini2
  generalize T.setVm vm' = U at *
  subst hg
  obtain ⟨meth1, cm, hm, hc, -, hml1, -, hl1, -, hsig1⟩ := Cond.code_spec hnamed' hcode'
  obtain ⟨k, hk, hkn⟩ := className_of_methodNamed hnamed'
  obtain ⟨hmn, hmd⟩ := name_of_methodNamed hnamed' hm
  have hx : k.methods[mk.idx]? = some meth1 := by simpa [Vm.method?, hk] using hm
  have hboot : k.loader = none := Vm.bootOf_findClass (findClass_of_methodNamed hnamed') hk
  obtain ⟨mS, hnS⟩ := Cond.code_named hcode2'
  obtain ⟨methS, cSd, hmethS, hcodeS, -, hlocS, -, -, -, -⟩ := Cond.code_spec hnS hcode2'
  obtain ⟨kS, hkS, -⟩ := className_of_methodNamed hnS
  have hfS : U.vm.findClass "java/lang/StrictMath" = some mS.cls := findClass_of_methodNamed hnS
  have hiS : kS.init = .initialized := Cond.initialized_spec hfS hkS hini2'
  have hmS : kS.findMethod nm "(D)D" = some mS.idx := findMethod_of_methodNamed hnS hkS
  have htopS := X'.here.top
  obtain ⟨g₀, hg0⟩ := Option.isSome_iff_exists.mp htopS
  obtain ⟨r, hr⟩ := State.topJava?_eq_some.mp hg0
  obtain ⟨mid, hmid⟩ := X'.here.above
  have hcur : U.cur < U.threads.size := State.cur_lt_of_frames hr
  have htop : U.setTop { g with stack := rest } = U.setFrames (.java { g with stack := rest } :: r) := State.setTop_of_frames _ hr
  have htail : U.frames.tail = r := by rw [hr]; rfl
  have hmidr : mid ++ below = r := by rw [← hmid, htail]
  have hsz : ({ g with stack := rest } : JFrame).locals.size = c.maxLocals := hsize.trans hml.symm
  have hfull : e.platform.stackFull (U.setTop { g with stack := rest }).me (U.setTop { g with stack := rest }).frames cm.maxLocals = false := by rw [hml1]; exact X'.notFull (g := { g with stack := rest }) hsz (vars := 2) (by omega) (by show 2 * g.monitorRoom + (rest.map fun v => v.category).sum + (2 + 11) ≤ R.locals; omega)
  have hroomS : (U.calling { g with stack := rest } mS #[.double b]).hasRoom e.platform { frames := rm.frames + 1, locals := rm.locals + 1024, cells := 0, slots := 0 } = true :=
    X'.room_calling (g := { g with stack := rest }) hsz hmethS hcodeS (R' := { frames := rm.frames + 1, locals := rm.locals + 1024, cells := 0, slots := 0 }) (by show rm.frames + 1 + 1 ≤ R.frames; omega) (by rw [hlocS]; show 2 * g.monitorRoom + (rest.map fun v => v.category).sum + (n2 + 11) + (rm.locals + 1024) ≤ R.locals; omega) (by show cells + 0 ≤ R.cells; omega) (by show slots + 0 ≤ R.slots; omega)
  rw [State.calling_eq htopS, htail] at hroomS
  have hU : (U.setTop { g with stack := rest }).pushFrame (.java { method := mk, pc := 0, locals := argsToLocals #[.double b] 2, stack := [], locked := none }) = U.setFrames (.java (entryFrame mk #[.double b] 2) :: .java { g with stack := rest } :: r) := by
    rw [State.pushFrame, State.frames_setTop _ hr, htop, State.setFrames_setFrames]
    rfl
  have hf1 : (U.setFrames (.java (entryFrame mk #[.double b] 2) :: .java { g with stack := rest } :: r)).frames = .java (entryFrame mk #[.double b] 2) :: .java { g with stack := rest } :: r := State.frames_setFrames _ hcur
  have hov : overridden p.tables e (U.setFrames (.java (entryFrame mk #[.double b] 2) :: .java { g with stack := rest } :: r)) (entryFrame mk #[.double b] 2) = some row :=
    vo_ov (k := k) (x := meth1) rfl hk (by rw [hkn]; exact (by decide : ("java/lang/Math" : String) ∈ overriddenIn)) hboot hx (by rw [hkn, hmn, hmd]; exact hrow p)
  have hb2 : ∀ F : List Frame, ((U.setFrames F).vm.classes[mk.cls]?.bind fun y => y.methods[mk.idx]?) = some meth1 := by
    intro F
    show (U.vm.classes[mk.cls]?.bind fun y => y.methods[mk.idx]?) = some meth1
    simp [hk, hx]
  have hb3 : (U.vm.classes[mk.cls]?.bind fun x => x.methods[mk.idx]?) = some meth1 := by simp [hk, hx]
  have hparams : meth1.sig.parameters.length = 1 := by
    have h3 : some { parameters := [.double], returnType := some .double } = some meth1.sig := hsig2.symm.trans hsig1
    rw [← Option.some.inj h3]
    rfl
  have htake : ∀ n : Nat, List.take (1 + n) [Value.double b] = [Value.double b] := fun n => List.take_of_length_le (Nat.le_add_right 1 n)
  obtain ⟨acts₂, hr2⟩ := hsem b e (U.setFrames (.native { method := mk, args := #[.double b] } :: .java { g with stack := rest } :: r)) (cS := mS.cls) (kS := kS) (i := mS.idx) hfS hkS hiS hmS
  have hup : upcallWords "java/lang/Math" nm = 0 := by
    simp only [List.mem_cons, List.not_mem_nil, or_false] at hnm
    rcases hnm with rfl | rfl | rfl <;> decide +kernel
  have hw3 : ((U.vm.classes[mk.cls]?).bind fun k => Option.map (fun n => upcallWords k.name n.name) k.methods[mk.idx]?).getD 0 = 0 := by simp [hk, hx, hkn, hmn, hup]
  have hwords : ∀ F : List Frame, (((U.setFrames F).vm.classes[mk.cls]?).bind fun k => (k.methods[mk.idx]?).map fun n => upcallWords k.name n.name).getD 0 = 0 := by
    intro F
    exact hw3
  have hstep2 : (stepThread p.tables e (U.setFrames (.java (entryFrame mk #[.double b] 2) :: .java { g with stack := rest } :: r))).1 = (doInvoke e (U.setFrames (.native { method := mk, args := #[.double b], stage := 1, saved := #[], awaiting := true, answer := none, words := 0 } :: .java { g with stack := rest } :: r)) acts₂ mS #[.double b]).1 := by
    unfold stepThread
    simp only [hf1, hov]
    simp [entryFrame, argsToLocals, Value.category, argCount, hb2, hb3, hparams, htake, hr2, afterNative, hwords, hw3, State.setFrames_setFrames]
  have hfN : (U.setFrames (.native { method := mk, args := #[.double b], stage := 1, saved := #[], awaiting := true, answer := none, words := 0 } :: .java { g with stack := rest } :: r)).frames = (.native { method := mk, args := #[.double b], stage := 1, saved := #[], awaiting := true, answer := none, words := 0 } :: .java { g with stack := rest } :: mid) ++ below := by rw [State.frames_setFrames _ hcur, ← hmidr]; rfl
  have eFirst : (U.setFrames (.native { method := mk, args := #[.double b], stage := 1, saved := #[], awaiting := true, answer := none, words := 0 } :: .java { g with stack := rest } :: r)).pushFrame (.invoking mS #[.double b]) = U.setFrames (.invoking mS #[.double b] :: .native { method := mk, args := #[.double b], stage := 1, saved := #[], awaiting := true, answer := none, words := 0 } :: .java { g with stack := rest } :: r) := by
    rw [State.pushFrame, State.frames_setFrames _ hcur, State.setFrames_setFrames]
  have happ : (headSpec ws rm).appliesLoose ⟨"java/lang/StrictMath", nm, "(D)D"⟩ e.platform ((U.setFrames (.native { method := mk, args := #[.double b], stage := 1, saved := #[], awaiting := true, answer := none, words := 0 } :: .java { g with stack := rest } :: r)).pushFrame (.invoking mS #[.double b])) = true := by
    rw [eFirst]
    refine (Spec.appliesLoose_iff (State.frames_setFrames _ hcur)).mpr ⟨X'.here.running, by simpa using X'.here.runnable, by simpa using X'.here.alone, hnS, rfl, State.classRipe_of (s := U.setFrames _) hkS hiS, ?_, ?_⟩
    · have h9 := vo_room (nf := { method := mk, args := #[.double b], stage := 1, saved := #[], awaiting := true, answer := none, words := 0 }) (F := rm.frames) (L := rm.locals) (C := 0) (Sl := 0) hcur (Nat.zero_le _) hroomS
      have h8 : (headSpec ws rm).room = { frames := rm.frames, locals := rm.locals, cells := 0, slots := 0 } := by
        show rm = _
        cases rm; simp only at hrc hrs; subst hrc; subst hrs; rfl
      rw [h8]; exact h9
    · rw [Cond.before_setFrames]
      exact atoms_intro fun w hw => hws w hw _ _ X'.warmed
  obtain ⟨o, s₂, hsteps, hrun2, hend, hq, L, hfe, hL⟩ := Steps.callFree hM p X'.admits X'.cas X'.clock (s := (U.setFrames (.native { method := mk, args := #[.double b], stage := 1, saved := #[], awaiting := true, answer := none, words := 0 } :: .java { g with stack := rest } :: r))) (m := mS) (args := #[.double b]) (acts := acts₂) hfN happ (hPc _ hUh X'.warmed) trivial
  obtain ⟨r0, rfl, hn⟩ := hQ _ _ _ hq
  rw [State.frames_setFrames _ hcur] at hend
  replace hend : s₂.frames = .native { method := mk, args := #[.double b], stage := 1, saved := #[], awaiting := false, answer := some (.returned (some (.double r0))), words := 0 } :: .java { g with stack := rest } :: r := hend
  obtain ⟨-, hW₂, e2, q2, q3, q4, q5, q6⟩ := id hfe
  have hW' : U.WarmedH s₂.vm := hW₂
  have hal : U.vm.Alike s₂.vm := hW'.alike
  obtain ⟨k', hk', ek⟩ := hal.2.2 _ _ hk
  have hboot' : k'.loader = none := by rw [ek]; exact hboot
  have hx' : k'.methods[mk.idx]? = some meth1 := by rw [ek]; exact hx
  have hkn' : k'.name = "java/lang/Math" := by rw [ek]; exact hkn
  obtain ⟨acts₃, hr3⟩ := hres r0 e s₂ hn
  have hcode3 : s₂.code? g.method = some c := by
    have h1 : s₂.code? g.method = U.code? g.method := by rw [State.code?_eq, State.code?_eq, hal.method?]
    rw [h1]; exact X'.here.code
  have hfs : handOver s₂ (some (.double r0)) (.java { g with stack := rest } :: r) = some (.java { g with pc := g.pc + 3, stack := .double r0 :: rest } :: r) := by
    simp [handOver, hcode3, hdg, Except.toOption]
  have hstep4 : (stepThread p.tables e s₂).1 = s₂.setFrames (.java { g with pc := g.pc + 3, stack := .double r0 :: rest } :: r) := by
    rw [vo_resumed (f := { method := mk, args := #[.double b], stage := 1, saved := #[], awaiting := false, answer := some (.returned (some (.double r0))), words := 0 }) (o := .returned (some (.double r0))) hend hk' hboot' hx' (by rw [hkn', hmn, hmd]; exact hrow p) rfl]
    show (afterNative e _ _ ((row.resume 1 #[] (.returned (some (.double r0)))).run e s₂)).1 = _
    rw [hr3]
    exact doReturn_native (f := { method := mk, args := #[.double b], stage := 1, saved := #[], awaiting := false, answer := some (.returned (some (.double r0))), words := 0 }) hend rfl hfs
  have hcs : s₂.curStatus? = some .runnable := by
    have h1 : s₂.curStatus? = ({ s₂ with vm := ((U.setFrames (.native { method := mk, args := #[.double b], stage := 1, saved := #[], awaiting := true, answer := none, words := 0 } :: .java { g with stack := rest } :: r)).pushFrame (.invoking mS #[.double b])).vm } : State).curStatus? := rfl
    rw [h1, e2]
    show (((U.setFrames (.native { method := mk, args := #[.double b], stage := 1, saved := #[], awaiting := true, answer := none, words := 0 } :: .java { g with stack := rest } :: r)).pushFrame (.invoking mS #[.double b])).setFrames _).curStatus? = _
    simpa [State.pushFrame] using X'.here.runnable
  have hal2 : s₂.alone = true := by
    have h1 : s₂.alone = ({ s₂ with vm := ((U.setFrames (.native { method := mk, args := #[.double b], stage := 1, saved := #[], awaiting := true, answer := none, words := 0 } :: .java { g with stack := rest } :: r)).pushFrame (.invoking mS #[.double b])).vm } : State).alone := rfl
    rw [h1, e2]
    show (((U.setFrames (.native { method := mk, args := #[.double b], stage := 1, saved := #[], awaiting := true, answer := none, words := 0 } :: .java { g with stack := rest } :: r)).pushFrame (.invoking mS #[.double b])).setFrames _).alone = _
    simpa [State.pushFrame] using X'.here.alone
  have e3 : s₂ = ({ U.setFrames s₂.frames with heap := s₂.heap, slotsUsed := s₂.slotsUsed } : State).setVm s₂.vm := by
    have h1 : s₂ = ({ s₂ with vm := ((U.setFrames (.native { method := mk, args := #[.double b], stage := 1, saved := #[], awaiting := true, answer := none, words := 0 } :: .java { g with stack := rest } :: r)).pushFrame (.invoking mS #[.double b])).vm } : State).setVm s₂.vm := rfl
    rw [e2, eFirst, State.setFrames_setFrames] at h1
    exact h1
  have hs₂ : s₂.setFrames (.java { g with pc := g.pc + 3, stack := .double r0 :: rest } :: r) = (({ U with heap := s₂.heap, slotsUsed := s₂.slotsUsed } : State).setVm s₂.vm).setTop { g with pc := g.pc + 3, stack := .double r0 :: rest } := by
    have hr' : (({ U with heap := s₂.heap, slotsUsed := s₂.slotsUsed } : State).setVm s₂.vm).frames = .java g₀ :: r := hr
    rw [State.setTop_of_frames _ hr']
    conv => lhs; rw [e3]
    have e4 : ∀ F G : List Frame, (({ U.setFrames F with heap := s₂.heap, slotsUsed := s₂.slotsUsed } : State).setVm s₂.vm).setFrames G = (({ U with heap := s₂.heap, slotsUsed := s₂.slotsUsed } : State).setVm s₂.vm).setFrames G := fun F G => by
      show ({ (U.setFrames F).setFrames G with heap := s₂.heap, slotsUsed := s₂.slotsUsed } : State).setVm s₂.vm = _
      rw [State.setFrames_setFrames]; rfl
    exact e4 _ _
  have hsame : U.sameButNew ({ U with heap := s₂.heap, slotsUsed := s₂.slotsUsed } : State) L 0 0 := by
    refine ⟨?_, q2, q3, q4, q5, q6⟩
    obtain ⟨t, ht, -⟩ := State.frames_cons hr
    show ({ U with heap := s₂.heap, slotsUsed := s₂.slotsUsed } : State) = { U.setFrames U.frames with heap := s₂.heap, slotsUsed := s₂.slotsUsed }
    rw [State.setFrames_self ht]
  refine ⟨some (.double r0), (U.setFrames (.native { method := mk, args := #[.double b], stage := 1, saved := #[], awaiting := true, answer := none, words := 0 } :: .java { g with stack := rest } :: r)).pushFrame (.invoking mS #[.double b]), s₂, ({ U with heap := s₂.heap, slotsUsed := s₂.slotsUsed } : State).setVm s₂.vm, L, hUh,
    ⟨X'.admits, X'.cas, X'.clock, X'.frames, X'.room, X'.hears, X'.method, X'.code, (X'.here.setHeapUsed s₂.heap s₂.slotsUsed).setVm hW'.alike, X'.tail, State.WarmedH.trans X'.warmed hW', X'.limits, X'.bytes, X'.same.trans (hsame.setVm s.vm)⟩, hL, rfl, rfl, hq, fun target hrest => step target fun acts => ?_⟩
  rw [(doInvoke_java (s := U.setTop { g with stack := rest }) (e := e) (acts := acts) (args := #[.double b]) (meth := meth1) (code := cm) hm hc hl1 hfull).1, hml1, hU]
  refine Steps.head ⟨X'.here.running, by simpa using X'.here.runnable, by simpa using X'.here.alone⟩ ⟨.java (entryFrame mk #[.double b] 2) :: .java { g with stack := rest } :: mid, by rw [hf1, ← hmidr]; rfl, by simp, by simp⟩ ?_
  rw [hstep2]
  refine hsteps.trans ?_
  refine Steps.head ⟨hrun2, hcs, hal2⟩ ⟨.native { method := mk, args := #[.double b], stage := 1, saved := #[], awaiting := false, answer := some (.returned (some (.double r0))), words := 0 } :: .java { g with stack := rest } :: mid, by rw [hend, ← hmidr]; rfl, by simp, by simp⟩ ?_
  rw [hstep4, hs₂]
  exact hrest
def rmCeil : NativeRow := (NativeRow.find? Jvm.Native.java_lang_Math.nans.rows "java/lang/Math" "ceil" "(D)D").get (by decide +kernel)
set_option maxRecDepth 100000 in
theorem rmCeil_row (p : Program) : NativeRow.find? p.tables.natives "java/lang/Math" "ceil" "(D)D" = some rmCeil := by
  cases p <;> rfl
set_option maxRecDepth 100000 in
theorem rmCeil_sem (b : UInt64) (e : Env) (S : State) {cS : ClassId} {kS : Class} {i : Nat} (hf : S.vm.findClass "java/lang/StrictMath" = some cS) (hk : S.vm.classes[cS]? = some kS) (hi : kS.init = .initialized) (hm : kS.findMethod "ceil" "(D)D" = some i) : ∃ acts, (rmCeil.sem #[.double b]).run e S = .ctl (.call ⟨cS, i⟩ #[.double b] 1 #[]) S acts := by
  have hsem : rmCeil.sem #[.double b] = (do
      let c ← classNamed "java/lang/StrictMath"
      ensureInit c
      let some i := (← theClass c).findMethod "ceil" "(D)D" | modelBug ("StrictMath lacks " ++ "ceil")
      callThen ⟨c, i⟩ #[.double b] 1 #[]) := rfl
  have hw : wpRun (rmCeil.sem #[.double b]) (fun _ _ _ => False) (fun c s₂ _ => c = .call ⟨cS, i⟩ #[.double b] 1 #[] ∧ s₂ = S) e S := by
    rw [hsem]
    simp [jvm, wpRun, W.classNamed_ready hf, W.ensureInit_ready ⟨kS, hk, hi⟩, theClass, callThen, hk, hm]
    exact ⟨rfl, rfl, rfl, rfl⟩
  have hw' := (wpRun_iff_run _ _ _ _ _).mp hw
  cases hr : (rmCeil.sem #[.double b]).run e S with
  | ok v s₂ acts₂ => rw [hr] at hw'; exact hw'.elim
  | ctl x s₂ acts₂ =>
    rw [hr] at hw'
    have h2 : x = .call ⟨cS, i⟩ #[.double b] 1 #[] ∧ s₂ = S := by cases x <;> first | exact hw' | exact hw'.elim
    obtain ⟨rfl, rfl⟩ := h2
    exact ⟨_, rfl⟩
theorem rmCeil_res (r : UInt64) (e : Env) (S : State) (hn : vf_n64 r) : ∃ acts, (rmCeil.resume 1 #[] (.returned (some (.double r)))).run e S = .ok (some (.double r)) S acts := by
  have hsem : rmCeil.resume 1 #[] (.returned (some (.double r))) = (do
      let r ← anyNaN64 r
      mark "nat.java_lang_Math.ceil"
      Pure.pure (some (.double r))) := rfl
  unfold vf_n64 at hn
  have hw : wpRun (rmCeil.resume 1 #[] (.returned (some (.double r)))) (fun v s₂ _ => v = some (.double r) ∧ s₂ = S) (fun _ _ _ => False) e S := by
    rw [hsem]
    simp [jvm, wpRun, anyNaN64, hn]
  have hw' := (wpRun_iff_run _ _ _ _ _).mp hw
  cases hr : (rmCeil.resume 1 #[] (.returned (some (.double r)))).run e S with
  | ok v s₂ acts₂ => rw [hr] at hw'; obtain ⟨rfl, rfl⟩ := hw'; exact ⟨_, rfl⟩
  | ctl x s₂ acts₂ => rw [hr] at hw'; cases x <;> exact hw'.elim
def rmFloor : NativeRow := (NativeRow.find? Jvm.Native.java_lang_Math.nans.rows "java/lang/Math" "floor" "(D)D").get (by decide +kernel)
set_option maxRecDepth 100000 in
theorem rmFloor_row (p : Program) : NativeRow.find? p.tables.natives "java/lang/Math" "floor" "(D)D" = some rmFloor := by
  cases p <;> rfl
set_option maxRecDepth 100000 in
theorem rmFloor_sem (b : UInt64) (e : Env) (S : State) {cS : ClassId} {kS : Class} {i : Nat} (hf : S.vm.findClass "java/lang/StrictMath" = some cS) (hk : S.vm.classes[cS]? = some kS) (hi : kS.init = .initialized) (hm : kS.findMethod "floor" "(D)D" = some i) : ∃ acts, (rmFloor.sem #[.double b]).run e S = .ctl (.call ⟨cS, i⟩ #[.double b] 1 #[]) S acts := by
  have hsem : rmFloor.sem #[.double b] = (do
      let c ← classNamed "java/lang/StrictMath"
      ensureInit c
      let some i := (← theClass c).findMethod "floor" "(D)D" | modelBug ("StrictMath lacks " ++ "floor")
      callThen ⟨c, i⟩ #[.double b] 1 #[]) := rfl
  have hw : wpRun (rmFloor.sem #[.double b]) (fun _ _ _ => False) (fun c s₂ _ => c = .call ⟨cS, i⟩ #[.double b] 1 #[] ∧ s₂ = S) e S := by
    rw [hsem]
    simp [jvm, wpRun, W.classNamed_ready hf, W.ensureInit_ready ⟨kS, hk, hi⟩, theClass, callThen, hk, hm]
    exact ⟨rfl, rfl, rfl, rfl⟩
  have hw' := (wpRun_iff_run _ _ _ _ _).mp hw
  cases hr : (rmFloor.sem #[.double b]).run e S with
  | ok v s₂ acts₂ => rw [hr] at hw'; exact hw'.elim
  | ctl x s₂ acts₂ =>
    rw [hr] at hw'
    have h2 : x = .call ⟨cS, i⟩ #[.double b] 1 #[] ∧ s₂ = S := by cases x <;> first | exact hw' | exact hw'.elim
    obtain ⟨rfl, rfl⟩ := h2
    exact ⟨_, rfl⟩
theorem rmFloor_res (r : UInt64) (e : Env) (S : State) (hn : vf_n64 r) : ∃ acts, (rmFloor.resume 1 #[] (.returned (some (.double r)))).run e S = .ok (some (.double r)) S acts := by
  have hsem : rmFloor.resume 1 #[] (.returned (some (.double r))) = (do
      let r ← anyNaN64 r
      mark "nat.java_lang_Math.floor"
      Pure.pure (some (.double r))) := rfl
  unfold vf_n64 at hn
  have hw : wpRun (rmFloor.resume 1 #[] (.returned (some (.double r)))) (fun v s₂ _ => v = some (.double r) ∧ s₂ = S) (fun _ _ _ => False) e S := by
    rw [hsem]
    simp [jvm, wpRun, anyNaN64, hn]
  have hw' := (wpRun_iff_run _ _ _ _ _).mp hw
  cases hr : (rmFloor.resume 1 #[] (.returned (some (.double r)))).run e S with
  | ok v s₂ acts₂ => rw [hr] at hw'; obtain ⟨rfl, rfl⟩ := hw'; exact ⟨_, rfl⟩
  | ctl x s₂ acts₂ => rw [hr] at hw'; cases x <;> exact hw'.elim
def rmRint : NativeRow := (NativeRow.find? Jvm.Native.java_lang_Math.nans.rows "java/lang/Math" "rint" "(D)D").get (by decide +kernel)
set_option maxRecDepth 100000 in
theorem rmRint_row (p : Program) : NativeRow.find? p.tables.natives "java/lang/Math" "rint" "(D)D" = some rmRint := by
  cases p <;> rfl
set_option maxRecDepth 100000 in
theorem rmRint_sem (b : UInt64) (e : Env) (S : State) {cS : ClassId} {kS : Class} {i : Nat} (hf : S.vm.findClass "java/lang/StrictMath" = some cS) (hk : S.vm.classes[cS]? = some kS) (hi : kS.init = .initialized) (hm : kS.findMethod "rint" "(D)D" = some i) : ∃ acts, (rmRint.sem #[.double b]).run e S = .ctl (.call ⟨cS, i⟩ #[.double b] 1 #[]) S acts := by
  have hsem : rmRint.sem #[.double b] = (do
      let c ← classNamed "java/lang/StrictMath"
      ensureInit c
      let some i := (← theClass c).findMethod "rint" "(D)D" | modelBug ("StrictMath lacks " ++ "rint")
      callThen ⟨c, i⟩ #[.double b] 1 #[]) := rfl
  have hw : wpRun (rmRint.sem #[.double b]) (fun _ _ _ => False) (fun c s₂ _ => c = .call ⟨cS, i⟩ #[.double b] 1 #[] ∧ s₂ = S) e S := by
    rw [hsem]
    simp [jvm, wpRun, W.classNamed_ready hf, W.ensureInit_ready ⟨kS, hk, hi⟩, theClass, callThen, hk, hm]
    exact ⟨rfl, rfl, rfl, rfl⟩
  have hw' := (wpRun_iff_run _ _ _ _ _).mp hw
  cases hr : (rmRint.sem #[.double b]).run e S with
  | ok v s₂ acts₂ => rw [hr] at hw'; exact hw'.elim
  | ctl x s₂ acts₂ =>
    rw [hr] at hw'
    have h2 : x = .call ⟨cS, i⟩ #[.double b] 1 #[] ∧ s₂ = S := by cases x <;> first | exact hw' | exact hw'.elim
    obtain ⟨rfl, rfl⟩ := h2
    exact ⟨_, rfl⟩
theorem rmRint_res (r : UInt64) (e : Env) (S : State) (hn : vf_n64 r) : ∃ acts, (rmRint.resume 1 #[] (.returned (some (.double r)))).run e S = .ok (some (.double r)) S acts := by
  have hsem : rmRint.resume 1 #[] (.returned (some (.double r))) = (do
      let r ← anyNaN64 r
      mark "nat.java_lang_Math.rint"
      Pure.pure (some (.double r))) := rfl
  unfold vf_n64 at hn
  have hw : wpRun (rmRint.resume 1 #[] (.returned (some (.double r)))) (fun v s₂ _ => v = some (.double r) ∧ s₂ = S) (fun _ _ _ => False) e S := by
    rw [hsem]
    simp [jvm, wpRun, anyNaN64, hn]
  have hw' := (wpRun_iff_run _ _ _ _ _).mp hw
  cases hr : (rmRint.resume 1 #[] (.returned (some (.double r)))).run e S with
  | ok v s₂ acts₂ => rw [hr] at hw'; obtain ⟨rfl, rfl⟩ := hw'; exact ⟨_, rfl⟩
  | ctl x s₂ acts₂ => rw [hr] at hw'; cases x <;> exact hw'.elim
theorem x_ovQ {g : XG} {own nm : String} {cc : ByteArray} {nL d mc ms pc : Nat} {lv : List (Nat × Value)} {st : List Value} {ws : va_W} {k n : Nat} {index n2 d' : Nat} {bytes1 bytes2 : ByteArray} {row : NativeRow} {b : UInt64} {K : UInt64 → Prop} (G : XO g own cc nL d mc ms) (hM : SMd0 (xl g) (xD g) (xT g) ⟨"java/lang/StrictMath", nm, "(D)D"⟩ bytes2 n2 .double d' [.double b] [] [] 0 0 (fun r => vf_n64 r ∧ K r)) (hq : Cond.methodLink own index ⟨"java/lang/Math", nm, "(D)D"⟩ ∈ lw_all) (hstat : Cond.static ⟨"java/lang/Math", nm, "(D)D"⟩ ∈ lw_all) (hini : Cond.initialized "java/lang/Math" ∈ lw_all) (hcode : Cond.code ⟨"java/lang/Math", nm, "(D)D"⟩ bytes1 2 (some .double) ∈ lw_all) (hini2 : Cond.initialized "java/lang/StrictMath" ∈ lw_all) (hcode2 : Cond.code ⟨"java/lang/StrictMath", nm, "(D)D"⟩ bytes2 n2 (some .double) ∈ lw_all) (hrow : ∀ p : Program, NativeRow.find? p.tables.natives "java/lang/Math" nm "(D)D" = some row)
    (hsem : ∀ (b : UInt64) (e : Env) (S : State) {cS : ClassId} {kS : Class} {i : Nat}, S.vm.findClass "java/lang/StrictMath" = some cS → S.vm.classes[cS]? = some kS → kS.init = .initialized → kS.findMethod nm "(D)D" = some i → ∃ acts, (row.sem #[.double b]).run e S = .ctl (.call ⟨cS, i⟩ #[.double b] 1 #[]) S acts)
    (hres : ∀ (r : UInt64) (e : Env) (S : State), vf_n64 r → ∃ acts, (row.resume 1 #[] (.returned (some (.double r)))).run e S = .ok (some (.double r)) S acts) (hnm : nm ∈ ["ceil", "floor", "rint"]) (hdep : d' + 17 ≤ d) (hn2 : n2 ≤ 10) (hcat : (st.map fun v => v.category).sum ≤ 8) (hk : k ≤ mc) (hn : n ≤ ms) (dg : decode cc pc = .ok (.invokestatic index, 3)) (kk : ∀ r, K r → X g nL (pc + 3) lv (.double r :: st) ws k n) : X g nL pc lv (.double b :: st) ws k n := by
  refine x_calld (wc := []) (wr := ws) (rest := st) (mc' := 0) (ms' := 0) (wout := fun _ : Unit => []) (post := fun r _ => vf_n64 r ∧ K r) G (by rw [List.append_nil]; exact XSub.rf) (fun H locs ls hD hl hP hS => ⟨#[.double b], ?_⟩) (fun r u hu => by have h9 := kk r hu.2; rw [List.append_nil]; exact h9)
  exact vo_runQ (n2 := n2) (nL := nL) (cc := cc) (g := F0 (xm g) pc ls (.double b :: st)) G.exec G.code G.maxL G.cls (G.hts _ hq) (G.hts _ hstat) (G.hts _ hini) (G.hts _ hcode) (G.hts _ hini2) (G.hts _ hcode2) (hM H.size) rfl rfl (by rw [G.room]; show 10 + d' + 2 ≤ 10 + d; omega) (by rw [G.room]; show 8 + (n2 + 11) + 1044 + (11000 + 64 * d') ≤ 11000 + 64 * d; omega) (by rw [G.room]; show 40 ≤ 11000 + 64 * d; omega) (pay_in G.hts (lw_meth hcode2)) hrow hsem hres
    (fun U hU hW => xPc_at (wr := ws) (wc := []) (av := [.double b]) G (by rw [List.append_nil]; exact XSub.rf) hD hP hS U hU hW) (fun st0 o t hq2 => by obtain ⟨⟨r, u, ho, hp, -⟩, -⟩ := hq2; exact ⟨r, ho, hp.1⟩) rfl hl.1 rfl (lv_room hcat) dg (by rw [G.room]; exact ⟨hk, hn⟩) hnm
