/-! more rows: arrays of references, casts, interfaces, null, throws, handlers. Printed by gen/rows2.py -/
section
variable {g : XG} {own : String} {cc : ByteArray} {nL d mc ms pc : Nat} {lv lv' : List (Nat × Value)} {st : List Value} {ws ws' : va_W} {k n : Nat}
theorem x_aald (G : XO g own cc nL d mc ms) {a N : Nat} {C : String} {f : Nat → Option Nat} {i : Int32} (q0 ti : Nat) (ha : ws[q0]? = some (a, .inl (xT g ti, N, .inr (.inr (.inr (.inr f)))))) (ht : (xTy (xT g))[ti]? = some (xT g ti, .object C)) (hin : vp_in i N) (dg : decode cc pc = .ok (.aaload, 1)) (kk : X g nL (pc + 1) lv (va_rf (f i.toNatClampNeg) :: st) ws k n) : X g nL pc lv (.int i :: .ref a :: st) ws k n := fun hD H locs ls hl hP hS => va_aldq G.exec G.code G.K hP q0 ti ha ht hin dg (kk hD H locs ls hl hP hS)
theorem x_aast (G : XO g own cc nL d mc ms) {a N v ci : Nat} {E : String} {r : vw_C} {vs : List Value} {f : Nat → Option Nat} {i : Int32} (q0 ti qk : Nat) (ha : ws[q0]? = some (a, .inl (xT g ti, N, .inr (.inr (.inr (.inr f)))))) (ht : (xTy (xT g))[ti]? = some (xT g ti, .object E)) (hca : (r.1, E) ∈ xNC) (hv : ws[qk]? = some (v, .inr (ci, vs))) (hc : xCl[ci]? = some r) (hin : vp_in i N) (hw : ws.set q0 (a, .inl (xT g ti, N, .inr (.inr (.inr (.inr (va_up f i.toNatClampNeg (some v))))))) = ws') (dg : decode cc pc = .ok (.aastore, 1)) (kk : X g nL (pc + 1) lv st ws' k n) : X g nL pc lv (.ref v :: .int i :: .ref a :: st) ws k n := by
  subst hw
  exact fun hD H locs ls hl hP hS => va_astqO G.exec G.code G.K hP hD hS q0 ti qk ci ha ht (G.E.2.1.2.2.2.1 _ hca) hv hc hin dg (fun H1 locs1 hP1 hD1 hS1 => kk hD1 H1 locs1 ls hl hP1 hS1)
theorem x_aast0 (G : XO g own cc nL d mc ms) {a N v ci : Nat} {r : vw_C} {vs : List Value} {f : Nat → Option Nat} {i : Int32} (q0 ti qk : Nat) (ha : ws[q0]? = some (a, .inl (xT g ti, N, .inr (.inr (.inr (.inr f)))))) (ht : (xTy (xT g))[ti]? = some (xT g ti, .object r.1)) (hv : ws[qk]? = some (v, .inr (ci, vs))) (hc : xCl[ci]? = some r) (hin : vp_in i N) (hw : ws.set q0 (a, .inl (xT g ti, N, .inr (.inr (.inr (.inr (va_up f i.toNatClampNeg (some v))))))) = ws') (dg : decode cc pc = .ok (.aastore, 1)) (kk : X g nL (pc + 1) lv st ws' k n) : X g nL pc lv (.ref v :: .int i :: .ref a :: st) ws k n := by
  subst hw
  exact fun hD H locs ls hl hP hS => va_astq G.exec G.code G.K hP hD hS q0 ti qk ci ha ht hv hc hin dg (fun H1 locs1 hP1 hD1 hS1 => kk hD1 H1 locs1 ls hl hP1 hS1)
theorem x_aastN (G : XO g own cc nL d mc ms) {a N : Nat} {E : String} {f : Nat → Option Nat} {i : Int32} (q0 ti : Nat) (ha : ws[q0]? = some (a, .inl (xT g ti, N, .inr (.inr (.inr (.inr f)))))) (ht : (xTy (xT g))[ti]? = some (xT g ti, .object E)) (hin : vp_in i N) (hw : ws.set q0 (a, .inl (xT g ti, N, .inr (.inr (.inr (.inr (va_up f i.toNatClampNeg none)))))) = ws') (dg : decode cc pc = .ok (.aastore, 1)) (kk : X g nL (pc + 1) lv st ws' k n) : X g nL pc lv (.null :: .int i :: .ref a :: st) ws k n := by
  subst hw
  exact fun hD H locs ls hl hP hS => va_astqN G.exec G.code G.K hP hD hS q0 ti ha ht hin dg (fun H1 locs1 hP1 hD1 hS1 => kk hD1 H1 locs1 ls hl hP1 hS1)
/-- a new array of references -/
theorem x_anew (G : XO g own cc nL d mc ms) {C : String} {i N' B ti : Nat} {m : Int32} (hcl : Cond.classLink own i C ∈ lw_all) (hover : va_AO C (xs g)) (ht : (xTy (xT g))[ti]? = some (xT g ti, .object C)) (hneg : ¬ m < 0) (hN : m.toNatClampNeg = N') (hB : N' ≤ B) (hbytes : B * 4 ≤ 536870912) (hk : k + 1 ≤ mc) (hn : n + B ≤ ms) (dg : decode cc pc = .ok (.anewarray i, 3)) (kk : ∀ q : Nat, X g nL (pc + 3) lv (.ref q :: st) (ws ++ [(q, .inl (xT g ti, N', .inr (.inr (.inr (.inr (fun _ => none))))))]) (k + 1) (n + B)) : X g nL pc lv (.int m :: st) ws k n := fun hD H locs ls hl hP hS => by
  have h1 := (G.K.2 ti _ ht).2
  refine va_newq G.exec G.code G.cls (G.hts _ hcl) hover G.K hP hD hS G.A hneg hN (Nat.le_trans (Nat.mul_le_mul_right _ hB) hbytes) (by rw [G.room]; exact hk) (by rw [G.room]; exact Nat.le_trans (Nat.add_le_add_left hB n) hn) dg (fun q cA H1 hK1 hP1 hD1 hS1 => ?_)
  have h2 := (hK1.2 (xTy (xT g)).length (cA, .object C) (by rw [List.getElem?_append_right (Nat.le_refl _), Nat.sub_self]; rfl)).2
  have e : cA = xT g ti := Option.some.inj ((va_nmO h2 rfl).symm.trans (va_nmO h1 rfl))
  subst e
  exact W.widen (Nat.le_refl _) (Nat.add_le_add_left hB n) (kk q hD1 H1 locs ls hl hP1 hS1)
theorem x_castY (G : XO g own cc nL d mc ms) {a ci i : Nat} {nm : String} {q : vw_C} {fs : List Value} (hcl : Cond.classLink own i nm ∈ lw_all) (q0 : Nat) (he : ws[q0]? = some (a, .inr (ci, fs))) (hc : xCl[ci]? = some q) (hca : (q.1, nm) ∈ xNC) (dg : decode cc pc = .ok (.checkcast i, 3)) (kk : X g nL (pc + 3) lv (.ref a :: st) ws k n) : X g nL pc lv (.ref a :: st) ws k n := fun hD H locs ls hl hP hS => va_castY G.exec G.code G.cls (G.hts _ hcl) (G.E.2.1.2.2.2.1 _ hca) (va_recv G.K hP hc he) dg (kk hD H locs ls hl hP hS)
/-- a cast to the very class -/
theorem x_castS (G : XO g own cc nL d mc ms) {a ci i : Nat} {q : vw_C} {fs : List Value} (hcl : Cond.classLink own i q.1 ∈ lw_all) (q0 : Nat) (he : ws[q0]? = some (a, .inr (ci, fs))) (hc : xCl[ci]? = some q) (dg : decode cc pc = .ok (.checkcast i, 3)) (kk : X g nL (pc + 3) lv (.ref a :: st) ws k n) : X g nL pc lv (.ref a :: st) ws k n := fun hD H locs ls hl hP hS => by
  obtain ⟨cell, h1, h2, h3⟩ := va_recv G.K hP hc he
  exact va_castS G.exec G.code G.cls (G.hts _ hcl) (G.K.1 ci _ hc).2 ⟨cell, h1, h2, h3⟩ dg (kk hD H locs ls hl hP hS)
theorem x_tlenE (G : XO g own cc nL d mc ms) (dg : decode cc pc = .ok (.arraylength, 1)) (kk : X g nL (pc + 1) lv (.int 0 :: st) ws k n) : X g nL pc lv (.ref (xT g 20) :: st) ws k n := fun hD H locs ls hl hP hS => va_tlen G.exec G.code G.E.2.2.2.2.2.2.1.2.1 hS rfl dg (kk hD H locs ls hl hP hS)
theorem x_getsE {i : Nat} (G : XO g own cc nL d mc ms) (hq : Cond.fieldLink own i "java/util/ArrayList" "DEFAULTCAPACITY_EMPTY_ELEMENTDATA" "[Ljava/lang/Object;" ∈ lw_all) (dg : decode cc pc = .ok (.getstatic i, 3)) (kk : X g nL (pc + 3) lv (.ref (xT g 20) :: st) ws k n) : X g nL pc lv st ws k n := fun hD H locs ls hl hP hS => va_gets G.exec G.code G.E.2.2.2.2.2.2.1.1 hS G.cls (G.hts _ hq) (fun _ h => h) dg (kk hD H locs ls hl hP hS)
/-- a static that holds a reference or null: which, isn't known -/
theorem x_getsU {i : Nat} (G : XO g own cc nL d mc ms) (hq : Cond.fieldLink own i Bundle.tN "UNASSIGNED_STACK" Bundle.steD ∈ lw_all) (dg : decode cc pc = .ok (.getstatic i, 3)) (kk : ∀ t : Option Nat, X g nL (pc + 3) lv (va_rf t :: st) ws k n) : X g nL pc lv st ws k n := fun hD H locs ls hl hP hS => by
  rcases G.E.2.2.2.2.2.2.2.1.1 with h | ⟨t, h⟩
  · exact va_gets G.exec G.code h hS G.cls (G.hts _ hq) (fun _ h => h) dg (kk none hD H locs ls hl hP hS)
  · exact va_gets G.exec G.code h hS G.cls (G.hts _ hq) (fun _ h => h) dg (kk (some t) hD H locs ls hl hP hS)
theorem x_getsW {i : Nat} (G : XO g own cc nL d mc ms) (hq : Cond.fieldLink own i Bundle.tN "SUPPRESSED_SENTINEL" Bundle.listD ∈ lw_all) (dg : decode cc pc = .ok (.getstatic i, 3)) (kk : ∀ t : Option Nat, X g nL (pc + 3) lv (va_rf t :: st) ws k n) : X g nL pc lv st ws k n := fun hD H locs ls hl hP hS => by
  rcases G.E.2.2.2.2.2.2.2.2.1 with h | ⟨t, h⟩
  · exact va_gets G.exec G.code h hS G.cls (G.hts _ hq) (fun _ h => h) dg (kk none hD H locs ls hl hP hS)
  · exact va_gets G.exec G.code h hS G.cls (G.hts _ hq) (fun _ h => h) dg (kk (some t) hD H locs ls hl hP hS)
/-- a call through null -/
theorem x_invN {rest : List Value} (G : XO g own cc nL d mc ms) {i : Nat} {x : MethodName} {As : List Value} (hlk : Cond.methodLink own i x ∈ lw_all) (hdecl : va_Decl (xs g) x) {C : String} {z : MethodName} (hz : z.cls = x.cls) (hsel : Cond.selects C z z ∈ lw_all) (hx : x.cls ≠ "java/lang/invoke/MethodHandle" ∧ x.cls ≠ "java/lang/invoke/VarHandle" ∧ (parseMethodDescriptor x.desc).map (fun d => d.parameters.length) = some As.length) (hst : st = As.reverse ++ .null :: rest) (hcat : (rest.map fun v => v.category).sum ≤ 8) (hk : k + 1 ≤ mc) (hn : n + 8 ≤ ms) (dg : decode cc pc = .ok (.invokevirtual i, 3)) (kk : XT g nL pc lv rest ws (k + 1) (n + 8) "java/lang/NullPointerException") : X g nL pc lv st ws k n := fun hD H locs ls hl hP hS => by
  intro T hT Y
  obtain ⟨r0, r, hn0, hrm, hstR, hsigR⟩ := hdecl
  obtain ⟨c2, r2, m2, q1, q2, q3, q4, kP, hkP, hkPi⟩ := Cond.selects_spec (G.hts _ hsel)
  have e0 : r0.cls = m2.cls := by
    have a := findClass_of_methodNamed hn0
    have b := findClass_of_methodNamed q3
    rw [hz] at b
    exact Option.some.inj (a.symm.trans b)
  have hl9 : As.length = r.sig.parameters.length := by
    have h9 := hx.2.2
    rw [hsigR] at h9
    exact (Option.some.inj h9).symm
  obtain ⟨vm', X1, st1⟩ := Y.invokevirtualNull G.exec G.cls (G.hts _ hlk) hn0 hrm hstR (by rw [e0]; exact hkP) hkPi ⟨hx.1, hx.2.1⟩ (g := F0 (xm g) pc ls st) rfl (argsL := As) (rest := rest) hl9 hst (by rw [G.code]; exact dg)
  obtain ⟨t, s1, q⟩ := x_noteNP G hcat hk hn kk hD hl hP hS (T.setVm vm') hT X1
  exact ⟨t, st1 t s1, q⟩
theorem x_vmN {q N : Nat} {a : Nat → Value} {H : Heap} {ce : Cell} {c : ClassId} {f : Nat → Nat} (h : t_OB q c N f H a) (hc : H[q]? = some ce) : ce.vm = .none := by
  obtain ⟨cell, h1, h2⟩ := h
  cases Option.some.inj (h1.symm.trans hc)
  exact h2.2.1
/-- a made exception is thrown -/
theorem x_athrow (G : XO g own cc nL d mc ms) {a ci : Nat} {E : String} {T : u_T} {N : Nat} {fs : List Value} (q0 : Nat) (he : ws[q0]? = some (a, .inr (ci, fs))) (hc : xCl[ci]? = some (E, T, N)) (dg : decode cc pc = .ok (.athrow, 1)) (kk : XT g nL pc lv st ws k n E) : X g nL pc lv (.ref a :: st) ws k n := fun hD H locs ls hl hP hS => by
  obtain ⟨r, hr, hob⟩ := hP q0 _ he
  obtain ⟨cell, h1, h2, h3⟩ := va_recv G.K hP hc he
  exact vx_athrow G.exec G.code dg (kk hD H locs ls hl hP hS a cell h1 (x_vmN hob h1) h3)
/-- what is caught -/
theorem x_catch (G : XO g own cc nL d mc ms) {hh : List (Nat × Nat × Nat × Nat)} (hT : (xc g).exceptionTable.toList = tableOf hh) {E name : String} (pre : List ExceptionTableEntry) (x : ExceptionTableEntry) (suf : List ExceptionTableEntry) (hsplit : tableOf hh = pre ++ x :: suf) (hpass : ∀ z ∈ pre, covers z pc = false ∨ (z.catchType ≠ 0 ∧ ∃ nm : String, Cond.classLink own z.catchType nm ∈ lw_all ∧ (E, nm) ∈ xNN)) (hx : covers x pc = true) (h0 : x.catchType ≠ 0) (hlink : Cond.classLink own x.catchType name ∈ lw_all) (hcast : (E, name) ∈ xNC) {hpc : Nat} (hh9 : x.handlerPc = hpc) (kk : ∀ q : Nat, X g nL hpc lv [.ref q] ws k n) : XT g nL pc lv st ws k n E := fun hD H locs ls hl hP hS q ce hce hv hcl => by
  subst hh9
  exact vx_catch G.cls pre x suf (hT.trans hsplit) (fun z hz => (hpass z hz).imp id (fun ⟨h1, nm, h2, h3⟩ => ⟨h1, nm, G.hts _ h2, G.E.2.1.2.2.2.2.2.1 _ h3⟩)) hx h0 (G.hts _ hlink) (va_Nw.use rfl (G.E.2.1.2.2.2.1 _ hcast)) hce hv hcl (kk q hD H locs ls hl hP hS)
/-- segments that stay behind -/
theorem XSub.tw {tw : va_W} (h : XSub ws ws') : XSub (ws ++ tw) (ws' ++ tw) := ⟨fun q hq => (List.mem_append.mp hq).elim (fun z => List.mem_append_left _ (h.1 q z)) (fun z => List.mem_append_right _ z), fun A hD => by
  rw [va_D.iff] at hD ⊢
  rw [List.map_append] at hD ⊢
  obtain ⟨⟨h1, h2, h3⟩, h4⟩ : ((ws.map Prod.fst).Nodup ∧ (tw.map Prod.fst).Nodup ∧ ∀ a ∈ ws.map Prod.fst, ∀ b ∈ tw.map Prod.fst, a ≠ b) ∧ ∀ q ∈ ws ++ tw, A q.1 := ⟨List.nodup_append.mp hD.1, hD.2⟩
  have h5 := va_D.iff.mp (h.2 A (va_D.iff.mpr ⟨h1, fun q hq => h4 q (List.mem_append_left _ hq)⟩))
  refine ⟨List.nodup_append.mpr ⟨h5.1, h2, fun a ha b hb => ?_⟩, fun q hq => ?_⟩
  · obtain ⟨q, hq, rfl⟩ := List.mem_map.mp ha
    exact h3 _ (List.mem_map_of_mem (h.1 q hq)) b hb
  · rcases List.mem_append.mp hq with z | z
    · exact h5.2 q z
    · exact h4 q (List.mem_append_right _ z)⟩
theorem XSub.rot {w1 w2 tw : va_W} : XSub ((tw ++ w1) ++ w2) ((w1 ++ w2) ++ tw) := XSub.perm (by rw [List.append_assoc]; exact List.perm_append_comm)
theorem XSub.rot' {w1 w2 tw : va_W} : XSub ((w1 ++ w2) ++ tw) ((tw ++ w1) ++ w2) := XSub.perm (by rw [List.append_assoc tw]; exact List.perm_append_comm)
theorem XSub.rot2 {w1 w2 tw : va_W} : XSub ((w1 ++ tw) ++ w2) ((w1 ++ w2) ++ tw) := XSub.perm (by rw [List.append_assoc, List.append_assoc]; exact List.Perm.append_left _ List.perm_append_comm)
end
section
variable {g : XG} {own : String} {cc : ByteArray} {nL d mc ms pc : Nat} {lv lv' : List (Nat × Value)} {st : List Value} {ws ws' : va_W} {k n : Nat} {S : Type} {wout : S → va_W}
def XRun5 (g : XG) (nL pc : Nat) (lv : List (Nat × Value)) (st0 rest : List Value) (ws wc : va_W) (k n mc ms : Nat) (Qc : Nat → Array Value → State → Outcome → State → Prop) : Prop := ∀ (H : Heap) (locs : List Loc) (ls : Array Slot), va_D (xA g) ws → lv_has ls nL lv → va_P (xD g) xCl ws H → va_S (xA g) (xs g).heap H locs → ∃ a : Array Value, va_Run5 (xp g) (xl g) (xe g) (xr g) (xs g) (xm g) (xa g) (xb g) (xh g) (xc g) H locs k n mc ms (F0 (xm g) pc ls st0) rest (Qc H.size a) (va_A wc H.size)
theorem x_callFi {wc wr : va_W} {rest : List Value} {mc' ms' : Nat} {post : Int32 → S → Prop} (G : XO g own cc nL d mc ms) (hsub : XSub ws (wr ++ wc)) (hrun : XRun5 g nL pc lv st rest ws wc k n mc' ms' (fun sz => va_Qi post (xB (xD g) wout (va_A wc sz)) (va_A wc sz))) (kk : ∀ (r : Int32) (u : S), post r u → X g nL (pc + 5) lv (.int r :: rest) (wr ++ wout u) (k + mc') (n + ms')) : X g nL pc lv st ws k n := by
  intro hD H locs ls hl hP hS
  obtain ⟨a, hr⟩ := hrun H locs ls hD hl hP hS
  have hF := x_freeA G hsub hD hS
  refine va_callFi hr hS (fun q _ h => hF q h) hF (fun r u t H1 locs1 ht hvm hp hB hz hk hS1 => ?_)
  obtain ⟨hP1, hD1⟩ := hB
  rw [ht] at hP1
  obtain ⟨hP2, hD2⟩ := x_join G hsub hD hP hS hk hP1 hD1
  exact kk r u hp hD2 H1 locs1 ls hl hP2 hS1
theorem x_callFd {wc wr : va_W} {rest : List Value} {mc' ms' : Nat} {post : UInt64 → S → Prop} (G : XO g own cc nL d mc ms) (hsub : XSub ws (wr ++ wc)) (hrun : XRun5 g nL pc lv st rest ws wc k n mc' ms' (fun sz => va_Qd post (xB (xD g) wout (va_A wc sz)) (va_A wc sz))) (kk : ∀ (r : UInt64) (u : S), post r u → X g nL (pc + 5) lv (.double r :: rest) (wr ++ wout u) (k + mc') (n + ms')) : X g nL pc lv st ws k n := by
  intro hD H locs ls hl hP hS
  obtain ⟨a, hr⟩ := hrun H locs ls hD hl hP hS
  have hF := x_freeA G hsub hD hS
  refine va_callFd hr hS (fun q _ h => hF q h) hF (fun r u t H1 locs1 ht hvm hp hB hz hk hS1 => ?_)
  obtain ⟨hP1, hD1⟩ := hB
  rw [ht] at hP1
  obtain ⟨hP2, hD2⟩ := x_join G hsub hD hP hS hk hP1 hD1
  exact kk r u hp hD2 H1 locs1 ls hl hP2 hS1
theorem x_callFq {wc wr : va_W} {rest : List Value} {mc' ms' : Nat} {post : Option Nat → S → Prop} (G : XO g own cc nL d mc ms) (hsub : XSub ws (wr ++ wc)) (hrun : XRun5 g nL pc lv st rest ws wc k n mc' ms' (fun sz => va_Qq post (xB (xD g) wout (va_A wc sz)) (va_A wc sz))) (kk : ∀ (r : Option Nat) (u : S), post r u → X g nL (pc + 5) lv (va_rf r :: rest) (wr ++ wout u) (k + mc') (n + ms')) : X g nL pc lv st ws k n := by
  intro hD H locs ls hl hP hS
  obtain ⟨a, hr⟩ := hrun H locs ls hD hl hP hS
  have hF := x_freeA G hsub hD hS
  refine va_callFq hr hS (fun q _ h => hF q h) hF (fun r u t H1 locs1 ht hvm hp hB hz hk hS1 => ?_)
  obtain ⟨hP1, hD1⟩ := hB
  rw [ht] at hP1
  obtain ⟨hP2, hD2⟩ := x_join G hsub hD hP hS hk hP1 hD1
  exact kk r u hp hD2 H1 locs1 ls hl hP2 hS1
theorem x_callFv {wc wr : va_W} {rest : List Value} {mc' ms' : Nat} {post : S → Prop} (G : XO g own cc nL d mc ms) (hsub : XSub ws (wr ++ wc)) (hrun : XRun5 g nL pc lv st rest ws wc k n mc' ms' (fun sz => va_Qv post (xB (xD g) wout (va_A wc sz)) (va_A wc sz))) (kk : ∀ u : S, post u → X g nL (pc + 5) lv rest (wr ++ wout u) (k + mc') (n + ms')) : X g nL pc lv st ws k n := by
  intro hD H locs ls hl hP hS
  obtain ⟨a, hr⟩ := hrun H locs ls hD hl hP hS
  have hF := x_freeA G hsub hD hS
  refine va_callFv hr hS (fun q _ h => hF q h) hF (fun u t H1 locs1 ht hvm hp hB hz hk hS1 => ?_)
  obtain ⟨hP1, hD1⟩ := hB
  rw [ht] at hP1
  obtain ⟨hP2, hD2⟩ := x_join G hsub hD hP hS hk hP1 hD1
  exact kk u hp hD2 H1 locs1 ls hl hP2 hS1
variable {x y : MethodName} {bytes : ByteArray} {maxL d' mc' ms' i cnt : Nat} {ret : Option FieldType} {wc wr : va_W} {Qc : Nat → Array Value → State → Outcome → State → Prop} {b : Nat} {As rest : List Value}
theorem x_runF (G : XO g own cc nL d mc ms) {C : String} (hsub : XSub ws (wr ++ wc)) (hM : ∀ sz, Met (xl g) y (ws_ y bytes maxL ret) (xR d' mc' ms') (xPc (xD g) (xT g) (.ref b :: As) wc sz) (Qc sz) mc' ms' (va_A wc sz)) (hlk : Cond.methodLink own i x ∈ lw_all) (hsel : Cond.selects C x y ∈ lw_all) (hinst : Cond.instanceMethod y ∈ lw_all) (hini : Cond.initialized y.cls ∈ lw_all) (hcode : Cond.code y bytes maxL ret ∈ lw_all) (hF : (C, x, y) ∈ xNI) (hd : x.cls ≠ "java/lang/invoke/MethodHandle" ∧ x.cls ≠ "java/lang/invoke/VarHandle" ∧ (parseMethodDescriptor x.desc).map (fun d => d.parameters.length) = some As.length) (ci q0 : Nat) {q : vw_C} {fs : List Value} (hc : xCl[ci]? = some q) (he : ws[q0]? = some (b, .inr (ci, fs))) (hCq : q.1 = C) (hdep : d' + 1 ≤ d) (hmax : maxL ≤ 45) (hst : st = As.reverse ++ .ref b :: rest) (hcat : (rest.map fun v => v.category).sum ≤ 8) (hk : k + mc' ≤ mc) (hn : n + ms' ≤ ms) (dg : decode cc pc = .ok (.invokeinterface i cnt, 5)) : XRun5 g nL pc lv st rest ws wc k n mc' ms' Qc := by
  intro H locs ls hD hl hP hS
  have hG : GoodIn lw_all (va_wsF own i C x y (ws_ y bytes maxL ret)) := lw_app (fun w hw => by simp only [List.mem_cons, List.not_mem_nil, or_false] at hw; rcases hw with rfl | rfl | rfl | rfl <;> assumption) (lw_meth hcode)
  exact ⟨_, va_runF (As := As) (rest := rest) (by rw [← hCq]; exact (G.K.1 ci _ hc).2) ⟨G.exec, G.code, G.maxL, G.cls, G.hts⟩ (hM H.size) (va_cwF As.length G.hts hG rfl rfl rfl (G.E.2.1.2.2.2.2.1 _ hF) hd (by rw [G.room]; exact ⟨by show 10 + d' + 1 ≤ 10 + d; omega, by show 8 + (maxL + 11) + (11000 + 64 * d') ≤ 11000 + 64 * d; omega⟩)) ⟨xPc_blind, by rw [← hCq]; exact va_recv G.K hP hc he, fun U hU hW => xPc_at G hsub hD hP hS U hU hW⟩ rfl rfl hl.1 hst (lv_room hcat) dg (by rw [G.room]; exact ⟨hk, hn⟩)⟩
/-- the method that an interface has by itself -/
theorem x_runFD (G : XO g own cc nL d mc ms) {C : String} (hsub : XSub ws (wr ++ wc)) (hM : ∀ sz, Met (xl g) y (ws_ y bytes maxL ret) (xR d' mc' ms') (xPc (xD g) (xT g) (.ref b :: As) wc sz) (Qc sz) mc' ms' (va_A wc sz)) (hlk : Cond.methodLink own i y ∈ lw_all) (hZ : va_Nw (.landsInDefault C y y) (xs g)) (hinst : Cond.instanceMethod y ∈ lw_all) (hini : Cond.initialized y.cls ∈ lw_all) (hcode : Cond.code y bytes maxL ret ∈ lw_all) (hF : (C, y, y) ∈ xNI) (hd : y.cls ≠ "java/lang/invoke/MethodHandle" ∧ y.cls ≠ "java/lang/invoke/VarHandle" ∧ (parseMethodDescriptor y.desc).map (fun d => d.parameters.length) = some As.length) (ci q0 : Nat) {q : vw_C} {fs : List Value} (hc : xCl[ci]? = some q) (he : ws[q0]? = some (b, .inr (ci, fs))) (hCq : q.1 = C) (hdep : d' + 1 ≤ d) (hmax : maxL ≤ 45) (hst : st = As.reverse ++ .ref b :: rest) (hcat : (rest.map fun v => v.category).sum ≤ 8) (hk : k + mc' ≤ mc) (hn : n + ms' ≤ ms) (dg : decode cc pc = .ok (.invokeinterface i cnt, 5)) : XRun5 g nL pc lv st rest ws wc k n mc' ms' Qc := by
  intro H locs ls hD hl hP hS
  refine ⟨(Value.ref b :: As).toArray, ?_⟩
  have hws : ∀ w ∈ ws_ y bytes maxL ret, ∀ (a' : Array Value) (U : State), (xs g).WarmedH U.vm → w.before a' U = true := pay_in G.hts (lw_meth hcode)
  have hK : Back (xl g) (xr g) (xp g) (xe g) (xb g) (xs g) (xa g) y 5 8 (PreOf (xr g) mc' ms' (xPc (xD g) (xT g) (.ref b :: As) wc H.size)) (PostOf (Qc H.size) mc' ms' (va_A wc H.size)) := back_of (bytes := bytes) (maxL := maxL) (ret := ret) (hM H.size) xPc_blind rfl rfl (by rw [G.room]; show 10 + d' + 1 ≤ 10 + d; omega) (by rw [G.room]; show 8 + (maxL + 11) + (11000 + 64 * d') ≤ 11000 + 64 * d; omega) hws List.mem_cons_self (fun a' U hW => word_at hW (Or.inl (by first | rfl | simp [Cond.onTables, Cond.keeps, Cond.steady])) (G.hts _ hini))
  obtain ⟨f1, f2, f3, f4, f5⟩ := G.E.2.1.2.2.2.2.1 _ hF
  obtain ⟨cB, kB, g1, g2, -⟩ : ∃ (cB : ClassId) (kB : Class), (xs g).vm.findClass C = some cB ∧ (xs g).vm.classes[cB]? = some kB ∧ True := by
    obtain ⟨hfc, kB, hkB, -⟩ := (G.K.1 ci _ hc).2
    rw [hCq] at hfc
    exact ⟨_, kB, hfc, hkB, trivial⟩
  obtain ⟨cell, h1, h2, h3⟩ := va_recv G.K hP hc he
  rw [hCq] at h3
  cases g1.symm.trans h3
  intro T hT Y
  obtain ⟨v, vm₁, ⟨U', l2, c2, s2⟩, hW₁, X', ⟨g', mk, t, L, e1, e2, hq, z1, hL, z2, z3⟩, st9⟩ := Y.interfaceBackD G.exec (C := C) G.cls (G.hts _ hlk) (va_any rfl f1) (va_any rfl f2) (by exact hZ) (G.hts _ hinst) (va_any rfl f3) (va_any rfl f5) ⟨hd.1, hd.2.1⟩ hK (b := b) g1 g2 ⟨cell, by rw [hT]; exact h1, rfl, h2⟩ (g := F0 (xm g) pc ls st) rfl (hl.1.trans G.maxL.symm) (Steps.refl _) (argsL := As) (rest := rest) (fun sig h => by have h9 := hd.2.2; rw [h] at h9; exact (Option.some.inj h9).symm) hst (lv_room hcat) (by rw [G.code]; exact dg)
    (fun vm₁ hW₁ => ⟨by rw [G.room]; exact hk, by rw [G.room]; exact hn, xPc_at G hsub hD hP hS (T.setVm vm₁) hT hW₁⟩)
  dsimp only [Pt.U, Pt.locs, Pt.cells, Pt.slots] at X' e1 e2 z1 z2 z3 st9
  subst z1; subst z2; subst z3
  exact ⟨v, (T.setVm vm₁).calling g' mk (Value.ref b :: As).toArray, t, U', L, hT, X', hL, e1, e2, hq, fun t0 h0 => st9.trans h0⟩
end
section
variable {g : XG} {own : String} {cc : ByteArray} {nL d mc ms pc : Nat} {lv lv' : List (Nat × Value)} {st : List Value} {ws ws' : va_W} {k n : Nat}
theorem x_aloadNN (G : XO g own cc nL d mc ms) {i : Nat} (dg : decode cc pc = .ok (.aload i, 2)) (j : Nat) (hj : lv[j]? = some (i, .null)) (kk : X g nL (pc + 2) lv (.null :: st) ws k n) : X g nL pc lv st ws k n := fun hD H locs ls hl hP hS => lv_aloadN G.exec G.code dg (lv_at hl j hj) (kk hD H locs ls hl hP hS)
theorem x_astore_nQ (G : XO g own cc nL d mc ms) {i0 : Fin 4} {i : Nat} {v : Option Nat} (hi : (i0 : Nat) = i) (dg : decode cc pc = .ok (.astore_n i0, 1)) (hn : i < nL) (hw : (i, va_rf v) :: lv.filter (fun q => !(q.1 == i) && !(q.1 + 1 == i && q.2.category == 2)) = lv') (kk : X g nL (pc + 1) lv' st ws k n) : X g nL pc lv (va_rf v :: st) ws k n := by
  cases v with
  | none => exact x_astore_nN G hi dg hn hw kk
  | some a => exact x_astore_n G hi dg hn hw kk
theorem x_astoreQ (G : XO g own cc nL d mc ms) {i : Nat} {v : Option Nat} (dg : decode cc pc = .ok (.astore i, 2)) (hn : i < nL) (hw : (i, va_rf v) :: lv.filter (fun q => !(q.1 == i) && !(q.1 + 1 == i && q.2.category == 2)) = lv') (kk : X g nL (pc + 2) lv' st ws k n) : X g nL pc lv (va_rf v :: st) ws k n := by
  cases v with
  | none => exact x_astoreN G dg hn hw kk
  | some a => exact x_astore G dg hn hw kk
theorem x_narQ (ty : FieldType) (v : Option Nat) (h : refKind ty = true) : narrow ty (va_rf v) = va_rf v := by cases v <;> cases ty <;> first | rfl | cases h
theorem x_fitQ (ty : FieldType) (v : Option Nat) (h : refKind ty = true) : fits ty (va_rf v) = true := by cases v <;> cases ty <;> first | rfl | cases h
theorem XSub.as {w1 w2 tw : va_W} : XSub ((w1 ++ w2) ++ tw) (w1 ++ (w2 ++ tw)) := by rw [List.append_assoc]; exact XSub.rf
theorem XSub.as' {w1 w2 tw : va_W} : XSub (w1 ++ (w2 ++ tw)) ((w1 ++ w2) ++ tw) := by rw [List.append_assoc]; exact XSub.rf
variable {S : Type} {wout : S → va_W} {PX : String → S → Prop}
/-- new ArithmeticException() is thrown at once, and leaves the method -/
theorem x_throwAR (G : XO g "RoundingAuditor" cc nL d mc ms) {Qc : Array Value → State → Outcome → State → Prop} (hq : xq g = vx_MQ (xb g) Qc (xXC (xD g) wout (xA g) PX) (xa g) (xs g) mc ms (xA g)) (hT : ∀ x ∈ (xc g).exceptionTable.toList, False) {ik : Nat} (hk9 : Cond.classLink "RoundingAuditor" ik "java/lang/ArithmeticException" ∈ lw_all) (hini : Cond.initialized "java/lang/ArithmeticException" ∈ lw_all) (hcat : (st.map fun v => v.category).sum ≤ 8) (d0 : decode cc pc = .ok (.new ik, 3)) (d3 : decode cc (pc + 3) = .ok (.dup, 1)) (d4 : decode cc (pc + 4) = .ok (.invokespecial 137, 3)) (d7 : decode cc (pc + 7) = .ok (.athrow, 1)) (u : S) (hp : PX "java/lang/ArithmeticException" u) (hw : XSub ws (wout u)) (hkk : k + 1 ≤ mc) (hnn : n + 6 ≤ ms) : X g nL pc lv st ws k n := fun hD H locs ls hl hP hS => by
  show W _ _ _ _ _ _ _ _ _ _ H locs k n (xq g) _
  rw [hq]
  have hZ := G.E.2.2.2.2.2.2.2
  refine vx_throw0 (names := ["java/lang/RuntimeException", "java/lang/Exception"]) G.exec G.code G.noTraces G.cls (by decide +kernel) (by decide +kernel) (G.hts _ hk9) (G.hts _ hini) (hw_ar G.hts G.E.2.1) ?_ hZ.1 hZ.2 hS (hl.1.trans G.maxL.symm) d0 d3 d4 d7 (fun x hx => (hT x hx).elim) (by rw [G.room]; show _ < 10 + d; simp only [List.length_cons, List.length_nil]; omega) (by rw [G.room]; show _ ≤ 11000 + 64 * d; simp only [List.length_cons, List.length_nil]; omega) (by rw [G.room]; exact hkk) (by rw [G.room]; exact hnn) G.locks (fun t hvm hz hf => ⟨u, trivial, ⟨hp, (hw.P hP).kept fun i x hx => hf x.1 ((hw.P hP) i x hx).lt, hw.2 _ hD⟩, ⟨Nat.le_trans hS.1 hz, fun q h1 h2 => by rw [hf q (Nat.lt_of_lt_of_le h1 hS.1)]; exact hS.2.1 q h1 h2⟩⟩) hS.2.2 hkk hnn
  intro w hw9
  rcases List.mem_cons.mp hw9 with rfl | hw9
  · rfl
  rcases List.mem_cons.mp hw9 with rfl | hw9
  · rfl
  exact ho_ar w hw9
variable {y : MethodName} {bytes : ByteArray} {maxL d' mc' ms' i : Nat} {ret : Option FieldType} {wc wr : va_W} {Qc : Nat → Array Value → State → Outcome → State → Prop} {b : Nat} {As rest : List Value}
theorem x_runU9 (G : XO g own cc nL d mc ms) {C owner : String} {x : MethodName} (hsub : XSub ws (wr ++ wc)) (hM : ∀ sz, Met (xl g) y (ws_ y bytes maxL ret) (xR d' mc' ms') (xPc (xD g) (xT g) (.ref b :: As) wc sz) (Qc sz) mc' ms' (va_A wc sz)) (hlk : (Cond.methodLink own i x).before #[] (xs g) = true) (hsame : (Cond.sameMethod x.cls owner x.name x.desc).before #[] (xs g) = true) (hface : (Cond.interfaceMethod owner owner x.name x.desc).before #[] (xs g) = true) (hdecl : va_Decl (xs g) ⟨owner, x.name, x.desc⟩) (hsel : Cond.selects C ⟨owner, x.name, x.desc⟩ y ∈ lw_all) (hinst : Cond.instanceMethod y ∈ lw_all) (hini : Cond.initialized y.cls ∈ lw_all) (hcode : Cond.code y bytes maxL ret ∈ lw_all) (hd : owner ≠ "java/lang/invoke/MethodHandle" ∧ owner ≠ "java/lang/invoke/VarHandle" ∧ (parseMethodDescriptor x.desc).map (fun d => d.parameters.length) = some As.length) (ci q0 : Nat) {q : vw_C} {fs : List Value} (hc : xCl[ci]? = some q) (he : ws[q0]? = some (b, .inr (ci, fs))) (hCq : q.1 = C) (hdep : d' + 1 ≤ d) (hmax : maxL ≤ 45) (hst : st = As.reverse ++ .ref b :: rest) (hcat : (rest.map fun v => v.category).sum ≤ 8) (hk : k + mc' ≤ mc) (hn : n + ms' ≤ ms) (dg : decode cc pc = .ok (.invokevirtual i, 3)) : XRun g nL pc lv st rest ws wc k n mc' ms' Qc := by
  intro H locs ls hD hl hP hS
  have hsel2 : (Cond.selects C x y).before (xa g) (xs g) = true := by
    obtain ⟨cL, kL, r1, hcL, hkL, hiL, hfoundL, hn1⟩ := Cond.interfaceMethod_spec (va_any rfl hface : (Cond.interfaceMethod owner owner x.name x.desc).before (xa g) (xs g) = true)
    have h1 := G.hts _ hsel
    have h2 : (Cond.sameMethod x.cls owner x.name x.desc).before (xa g) (xs g) = true := va_any rfl hsame
    simp only [Cond.before, Cond.holds, Cond.value] at h1 h2 ⊢
    rw [hfoundL] at h1
    rw [hn1] at h2
    cases hz : (xs g).methodFound? x.cls x.name x.desc with
    | none => rw [hz] at h2; cases hy : (xs g).vm.findClass x.cls with
      | none => rw [hy] at h2; simp at h2
      | some c => rw [hy] at h2; simp at h2
    | some r =>
      rw [hz] at h2
      cases hy : (xs g).vm.findClass x.cls with
      | none => rw [hy] at h2; simp at h2
      | some c =>
        rw [hy] at h2
        simp at h2
        rw [h2.1]
        exact h1
  refine ⟨_, va_runU (C := C) (owner := owner) (As := As) (rest := rest) ⟨G.exec, G.code, G.maxL, G.cls, G.hts⟩ (hM H.size) ⟨⟨rfl, rfl, by rw [G.room]; show 10 + d' + 1 ≤ 10 + d; omega, by rw [G.room]; show 8 + (maxL + 11) + (11000 + 64 * d') ≤ 11000 + 64 * d; omega, pay_in G.hts (lw_meth hcode), List.mem_cons_self⟩, G.hts _ hcode, G.hts _ hini, ⟨hd.1, hd.2.1⟩, fun sig h => ?_, va_any rfl hlk, va_any rfl hsame, hdecl, hsel2, G.hts _ hinst⟩ ⟨xPc_blind, by rw [← hCq]; exact va_recv G.K hP hc he, fun U hU hW => xPc_at G hsub hD hP hS U hU hW⟩ rfl rfl hl.1 hst (lv_room hcat) dg (by rw [G.room]; exact ⟨hk, hn⟩)⟩
  have h2 := hd.2.2
  rw [h] at h2
  exact (Option.some.inj h2).symm
end
section
variable {g : XG} {own : String} {cc : ByteArray} {nL d mc ms pc : Nat} {lv lv' : List (Nat × Value)} {st : List Value} {ws ws' : va_W} {k n : Nat}
theorem x_ldcM (G : XO g own cc nL d mc ms) {i : Nat} (hcl : Cond.classLink own i "[Ljava/lang/Object;" ∈ lw_all) (dg : decode cc pc = .ok (.ldc i, 2)) (kk : X g nL (pc + 2) lv (.ref (xT g 21) :: st) ws k n) : X g nL pc lv st ws k n := fun hD H locs ls hl hP hS => va_ldcM G.exec G.code G.cls (G.hts _ hcl) G.E.2.2.2.2.2.2.1.2.2.2 dg (kk hD H locs ls hl hP hS)
theorem x_cellA (cA : ClassId) (N : Nat) (x : (Nat → Int32) ⊕ (Nat → Int64) ⊕ (Nat → UInt32) ⊕ (Nat → UInt64) ⊕ (Nat → Option Nat)) : (vp_cell cA (N, x)).vm.isStatics = false ∧ (vp_cell cA (N, x)).cls = cA := by rcases x with _ | _ | _ | _ | _ <;> exact ⟨rfl, rfl⟩
theorem x_getCA (G : XO g own cc nL d mc ms) {i a N : Nat} {x : (Nat → Int32) ⊕ (Nat → Int64) ⊕ (Nat → UInt32) ⊕ (Nat → UInt64) ⊕ (Nat → Option Nat)} (hlk : Cond.methodLink own i ⟨"java/lang/Object", "getClass", "()Ljava/lang/Class;"⟩ ∈ lw_all) (hsel : Cond.selects "[Ljava/lang/Object;" ⟨"java/lang/Object", "getClass", "()Ljava/lang/Class;"⟩ ⟨"java/lang/Object", "getClass", "()Ljava/lang/Class;"⟩ ∈ lw_all) (hin : Cond.instanceMethod ⟨"java/lang/Object", "getClass", "()Ljava/lang/Class;"⟩ ∈ lw_all) (hnat : Cond.native ⟨"java/lang/Object", "getClass", "()Ljava/lang/Class;"⟩ ∈ lw_all) (q0 : Nat) (he : ws[q0]? = some (a, .inl (xT g 8, N, x))) (hd : 1 ≤ d) (hcat : (st.map fun v => v.category).sum ≤ 8) (dg : decode cc pc = .ok (.invokevirtual i, 3)) (kk : X g nL (pc + 3) lv (.ref (xT g 21) :: st) ws k n) : X g nL pc lv (.ref a :: st) ws k n := fun hD H locs ls hl hP hS => va_getC G.exec G.code (G.maxL.trans hl.1.symm) G.cls (G.hts _ hlk) (va_Dc.use G.E.2.1.2.2.2.2.2.2.2.1.2) (G.hts _ hsel) (G.hts _ hin) (G.hts _ hnat) G.E.2.2.2.2.2.2.1.2.2.2 ⟨_, hP q0 _ he, (x_cellA _ _ _).1, by rw [(x_cellA _ _ _).2]; exact va_nmO ((G.K.2 8 (xT g 8, .object "java/lang/Object") rfl).2) rfl⟩ (by rw [G.room]; show 1 ≤ 10 + d; omega) (by rw [G.room]; show _ ≤ 11000 + 64 * d; omega) dg (kk hD H locs ls hl hP hS)
/-- tapes are copied to a greater array -/
theorem x_copyqT (G : XO g own cc nL d mc ms) {index : Nat} (hlink : Cond.methodLink own index arraycopyName ∈ lw_all) (hnat : Cond.native arraycopyName ∈ lw_all) (hstat : Cond.static arraycopyName ∈ lw_all) (hini : Cond.initialized "java/lang/System" ∈ lw_all) (q0 q1 : Nat) {a a0 n0 n1 : Nat} {f f1 : Nat → Option Nat} (ha0 : ws[q0]? = some (a0, .inl (xT g 8, n0, .inr (.inr (.inr (.inr f)))))) (ha1 : ws[q1]? = some (a, .inl (xT g 8, n1, .inr (.inr (.inr (.inr f1)))))) {sp dp m : Int32} (h1 : ¬ sp < 0) (h2 : ¬ dp < 0) (h3 : ¬ m < 0) (h4 : sp.toNatClampNeg + m.toNatClampNeg ≤ n0) (h5 : dp.toNatClampNeg + m.toNatClampNeg ≤ n1) (hel : ∀ i : Nat, i < m.toNatClampNeg → ∀ y : Nat, f (sp.toNatClampNeg + i) = some y → ∃ fs : List Value, (y, .inr (7, fs)) ∈ ws) (hw : ws.set q1 (a, .inl (xT g 8, n1, .inr (.inr (.inr (.inr (va_cpy f f1 sp.toNatClampNeg dp.toNatClampNeg m.toNatClampNeg)))))) = ws') (hd : 1 ≤ d) (hcat : (st.map fun v => v.category).sum ≤ 8) (dg : decode cc pc = .ok (.invokestatic index, 3)) (kk : X g nL (pc + 3) lv st ws' k n) : X g nL pc lv (.int m :: .int dp :: .ref a :: .int sp :: .ref a0 :: st) ws k n := by
  subst hw
  refine fun hD H locs ls hl hP hS => va_copyq (C := RX8) G.exec G.code (G.maxL.trans hl.1.symm) G.cls (G.hts _ hlink) (G.hts _ hnat) (G.hts _ hstat) (G.hts _ hini) G.K hP hD hS q0 q1 8 8 ha0 ha1 rfl rfl h1 h2 h3 h4 h5 (fun i hi y hy => ?_) (fun comp c0 e1 e2 => ?_) (by rw [G.room]; show 1 ≤ 10 + d; omega) (by rw [G.room]; show _ + (nativeFrameWords "java/lang/System" "arraycopy" 5 + 11) ≤ 11000 + 64 * d; have h9 := x_nfw; omega) dg (fun H1 locs1 hP1 hD1 hS1 => kk hD1 H1 locs1 ls hl hP1 hS1)
  · obtain ⟨fs, hfs⟩ := hel i hi y hy
    obtain ⟨q8, h8⟩ := List.getElem?_of_mem hfs
    exact va_recv G.K hP (rfl : xCl[7]? = some (RX8, TX8, 7)) h8
  · obtain ⟨c3, c4, hc3, hc4, hasg⟩ := Cond.castable_spec (va_Nw.use rfl (G.E.2.1.2.2.2.1 (RX8, "java/lang/Object") (by decide +kernel)) : (Cond.castable RX8 "java/lang/Object").before (xa g) (xs g) = true)
    cases hc3.symm.trans e2
    cases hc4.symm.trans e1
    exact hasg
end
