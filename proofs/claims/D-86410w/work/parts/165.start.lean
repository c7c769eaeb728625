/-! the claim's start. The head: the kit's SKELETON.whole behind PART A. Printed by gen/start.py -/
/-! THE CLAIM OUT OF ONE WALK OF THE LAW'S BODY. Your part is whole_start (and what it stands on); all else here is the same for every law, but numbers. -/
def R_law : String := "RoundingAuditorLaw"
def lw_P (b : Addr) (xs : List Int32) (args : Array Value) (s : State) : Prop := args = #[.ref b] ∧ s.IntsAt b xs ∧ xs.length ≤ 320 ∧ (Jvm.Cond.and given_1 narrow_1).before args s = true
def lw_Q (_ : Array Value) (s : State) (o : Outcome) (t : State) : Prop := o = .returned (some (.int 1)) ∧ Framed s o t [] 603072 7153770
def lw_Z (below : List Frame) (a : Array Value) (s : State) : State → Prop := fun t => ∃ o, t.status = .running ∧ Ended t below o ∧ lw_Q a s o t
/-- the law's own end, with 1 on the stack, nothing written that was there before, its room as the claim has it -/
theorem lw_ret {p : Program} {l : Launch} {e : Env} {s : State} {m : MethodId} {below : List Frame} {meth : Method} {c : Code} {b : Nat} (hx : p.tables.exec = Jvm.exec) (hb : c.code = code) (hr : meth.sig.returnType = ret) (hlocks : meth.locks = false) {pc : Nat} {H : Heap} {ls : Array Slot} (hdg : decode code pc = .ok (.ireturn, 1)) : W p l e room_1 s m #[Value.ref b] below meth c H [] 603072 7153770 (lw_Z below #[Value.ref b] s) (F0 m pc ls [.int 1]) := by
  intro T hT X
  obtain ⟨fs, hret, hrun, hended, hW, hframe⟩ := X.leave (v := some (.int 1)) (hlocks := hlocks) (fun h => by rw [hr] at h; cases h)
  have hmeth' : T.vm.method? m = some meth := X.method'
  refine ⟨T.setFrames fs, ?_, .returned (some (.int 1)), hrun, hended, rfl, ⟨_, rfl⟩, hW, hframe⟩
  jvm_step X.here [X.here.top, hx, hb, hdg, hmeth', hr, ret, narrow_b1]
  (try refine ⟨rfl, ?_⟩); (try refine ⟨rfl, ?_⟩)
  first | (intro acts; rw [hret _ acts rfl rfl rfl]) | rw [hret _ _ rfl rfl rfl]
  exact Steps.refl _
/-- what holds at the law's entry: the machine, the code, the tables' words (any of lw_tbl by 'hts w (by decide +kernel)'), the script of L ints xs at the cell b, what the Statement gives of the start (any of its parts by flat_of_before) -/
def lw_At (p : Program) (s : State) (m : MethodId) (meth : Method) (c : Code) (b L : Nat) (xs : Nat → Int32) : Prop :=
  p.tables.exec = Jvm.exec ∧ c.code = code ∧ meth.sig.returnType = ret ∧ c.maxLocals = 8 ∧ s.vm.findClass R_law = some m.cls ∧ (∀ w ∈ lw_tbl, w.before #[Value.ref b] s = true) ∧ va_X b L xs s s.heap ∧ b < s.heap.size ∧ meth.locks = false ∧ (Jvm.Cond.and given_1 narrow_1).before #[Value.ref b] s = true
/-- the classes at the law's entry -/
theorem e_classes {s : State} {b : Nat} (ht : ∀ w ∈ lw_tbl, w.before #[Value.ref b] s = true) : ∃ (dC : Nat → ClassId) (dI : Nat → Nat → Nat), ∀ (k : Nat) (q : vw_C), xCl[k]? = some q → u_Kn s q.1 q.2.1 q.2.2 (dC k) (dI k) := by
  have H : ∀ k : Nat, ∃ (c : ClassId) (i : Nat → Nat), ∀ q : vw_C, xCl[k]? = some q → u_Kn s q.1 q.2.1 q.2.2 c i := by
    intro k
    match k with
    | 0 =>
      obtain ⟨c, i, h⟩ := u_known (C := RX1) (T := TX1) (N := 7) ht (fun w h => lw_all_tbl (in_X1 w h)) (ht _ (lw_all_tbl q113))
      exact ⟨c, i, fun q hq => by cases hq; exact h⟩
    | 1 =>
      obtain ⟨c, i, h⟩ := u_known (C := RX2) (T := TX2) (N := 1) ht (fun w h => lw_all_tbl (in_X2 w h)) (ht _ (lw_all_tbl q123))
      exact ⟨c, i, fun q hq => by cases hq; exact h⟩
    | 2 =>
      obtain ⟨c, i, h⟩ := u_known (C := RJ2) (T := TJ2) (N := 3) ht (fun w h => lw_all_tbl (in_J2 w h)) (ht _ (lw_all_tbl q134))
      exact ⟨c, i, fun q hq => by cases hq; exact h⟩
    | 3 =>
      obtain ⟨c, i, h⟩ := u_known (C := RX3) (T := TX3) (N := 36) ht (fun w h => lw_all_tbl (in_X3 w h)) (ht _ (lw_all_tbl q1527))
      exact ⟨c, i, fun q hq => by cases hq; exact h⟩
    | 4 =>
      obtain ⟨c, i, h⟩ := u_known (C := RX5) (T := TX5) (N := 5) ht (fun w h => lw_all_tbl (in_X5 w h)) (ht _ (lw_all_tbl q505))
      exact ⟨c, i, fun q hq => by cases hq; exact h⟩
    | 5 =>
      obtain ⟨c, i, h⟩ := u_known (C := RX6) (T := TX6) (N := 5) ht (fun w h => lw_all_tbl (in_X6 w h)) (ht _ (lw_all_tbl q531))
      exact ⟨c, i, fun q hq => by cases hq; exact h⟩
    | 6 =>
      obtain ⟨c, i, h⟩ := u_known (C := RX7) (T := TX7) (N := 6) ht (fun w h => lw_all_tbl (in_X7 w h)) (ht _ (lw_all_tbl q890))
      exact ⟨c, i, fun q hq => by cases hq; exact h⟩
    | 7 =>
      obtain ⟨c, i, h⟩ := u_known (C := RX8) (T := TX8) (N := 7) ht (fun w h => lw_all_tbl (in_X8 w h)) (ht _ (lw_all_tbl q940))
      exact ⟨c, i, fun q hq => by cases hq; exact h⟩
    | 8 =>
      obtain ⟨c, i, h⟩ := u_known (C := RX11) (T := TX11) (N := 1) ht (fun w h => lw_all_tbl (in_X11 w h)) (ht _ (lw_all_tbl q980))
      exact ⟨c, i, fun q hq => by cases hq; exact h⟩
    | 9 =>
      obtain ⟨c, i, h⟩ := u_known (C := RX12) (T := TX12) (N := 1) ht (fun w h => lw_all_tbl (in_X12 w h)) (ht _ (lw_all_tbl q1004))
      exact ⟨c, i, fun q hq => by cases hq; exact h⟩
    | 10 =>
      obtain ⟨c, i, h⟩ := u_known (C := RX14) (T := TX14) (N := 1) ht (fun w h => lw_all_tbl (in_X14 w h)) (ht _ (lw_all_tbl q1012))
      exact ⟨c, i, fun q hq => by cases hq; exact h⟩
    | 11 =>
      obtain ⟨c, i, h⟩ := u_known (C := RX15) (T := TX15) (N := 1) ht (fun w h => lw_all_tbl (in_X15 w h)) (ht _ (lw_all_tbl q1023))
      exact ⟨c, i, fun q hq => by cases hq; exact h⟩
    | 12 =>
      obtain ⟨c, i, h⟩ := u_known (C := RX16) (T := TX16) (N := 1) ht (fun w h => lw_all_tbl (in_X16 w h)) (ht _ (lw_all_tbl q1031))
      exact ⟨c, i, fun q hq => by cases hq; exact h⟩
    | 13 =>
      obtain ⟨c, i, h⟩ := u_known (C := RX17) (T := TX17) (N := 1) ht (fun w h => lw_all_tbl (in_X17 w h)) (ht _ (lw_all_tbl q1039))
      exact ⟨c, i, fun q hq => by cases hq; exact h⟩
    | 14 =>
      obtain ⟨c, i, h⟩ := u_known (C := RX18) (T := TX18) (N := 1) ht (fun w h => lw_all_tbl (in_X18 w h)) (ht _ (lw_all_tbl q1047))
      exact ⟨c, i, fun q hq => by cases hq; exact h⟩
    | 15 =>
      obtain ⟨c, i, h⟩ := u_known (C := RX19) (T := TX19) (N := 1) ht (fun w h => lw_all_tbl (in_X19 w h)) (ht _ (lw_all_tbl q1055))
      exact ⟨c, i, fun q hq => by cases hq; exact h⟩
    | 16 =>
      obtain ⟨c, i, h⟩ := u_known (C := RX20) (T := xT0) (N := 0) ht (fun w h => by cases h) (ht _ (lw_all_tbl q1063))
      exact ⟨c, i, fun q hq => by cases hq; exact h⟩
    | 17 =>
      obtain ⟨c, i, h⟩ := u_known (C := RX21) (T := TX21) (N := 2) ht (fun w h => lw_all_tbl (in_X21 w h)) (ht _ (lw_all_tbl q1070))
      exact ⟨c, i, fun q hq => by cases hq; exact h⟩
    | 18 =>
      obtain ⟨c, i, h⟩ := u_known (C := RX22) (T := TX22) (N := 2) ht (fun w h => lw_all_tbl (in_X22 w h)) (ht _ (lw_all_tbl q1083))
      exact ⟨c, i, fun q hq => by cases hq; exact h⟩
    | 19 =>
      obtain ⟨c, i, h⟩ := u_known (C := RX23) (T := xT0) (N := 0) ht (fun w h => by cases h) (ht _ (lw_all_tbl q1097))
      exact ⟨c, i, fun q hq => by cases hq; exact h⟩
    | 20 =>
      obtain ⟨c, i, h⟩ := u_known (C := RX24) (T := xT0) (N := 0) ht (fun w h => by cases h) (ht _ (lw_all_tbl q1104))
      exact ⟨c, i, fun q hq => by cases hq; exact h⟩
    | 21 =>
      obtain ⟨c, i, h⟩ := u_known (C := RX25) (T := TX25) (N := 8) ht (fun w h => lw_all_tbl (in_X25 w h)) (ht _ (lw_all_tbl q1430))
      exact ⟨c, i, fun q hq => by cases hq; exact h⟩
    | k + 22 => exact ⟨0, fun _ => 0, fun q hq => by cases hq⟩
  exact ⟨fun k => (H k).choose, fun k => (H k).choose_spec.choose, fun k => (H k).choose_spec.choose_spec⟩
theorem e_arr1 {s : State} {A : Array Value} {ty : FieldType} (hn : ∀ C, ty ≠ .object C) (h : (Cond.arrayClass ty).before A s = true) : ∃ c : ClassId, ArrOfT s c ty ∧ va_RA s c ty := by
  obtain ⟨cA, kA, comp, h1, h2, h3⟩ := Cond.arrayClass_spec h
  refine ⟨cA, fun n z => ⟨fun k h => (by cases h), kA, h2, comp, h3⟩, ?_⟩
  cases ty with
  | object C => exact absurd rfl (hn C)
  | _ => exact h1
theorem e_arr2 {s : State} {A : Array Value} {C : String} (h : (Cond.arrayOver (.object C)).before A s = true) : ∃ c : ClassId, ArrOfT s c (.object C) ∧ va_RA s c (.object C) := by
  obtain ⟨comp, c, k, h1, h2, h3, h4, h5⟩ := Cond.arrayOver_spec h
  exact ⟨c, fun n z => ⟨fun k h => (by cases h), k, h3, comp, h4⟩, k, comp, h3, h4, h1, h5⟩
/-- the arrays' classes at the law's entry -/
theorem e_arrays {s : State} {b : Nat} (ht : ∀ w ∈ lw_tbl, w.before #[Value.ref b] s = true) (e0 mi : Nat) : ∃ ta : Nat → ClassId, ta 20 = e0 ∧ ta 21 = mi ∧ ∀ (k : Nat) (q : ClassId × FieldType), (xTy ta)[k]? = some q → ArrOfT s q.1 q.2 ∧ va_RA s q.1 q.2 := by
  obtain ⟨c0, h0⟩ := e_arr1 (ty := .boolean) (by intro C h; cases h) (ht _ (by decide +kernel : (Cond.arrayClass .boolean) ∈ lw_tbl))
  obtain ⟨c1, h1⟩ := e_arr1 (ty := .byte) (by intro C h; cases h) (ht _ (by decide +kernel : (Cond.arrayClass .byte) ∈ lw_tbl))
  obtain ⟨c2, h2⟩ := e_arr1 (ty := .int) (by intro C h; cases h) (ht _ (by decide +kernel : (Cond.arrayClass .int) ∈ lw_tbl))
  obtain ⟨c3, h3⟩ := e_arr1 (ty := .long) (by intro C h; cases h) (ht _ (by decide +kernel : (Cond.arrayClass .long) ∈ lw_tbl))
  obtain ⟨c4, h4⟩ := e_arr1 (ty := .float) (by intro C h; cases h) (ht _ (by decide +kernel : (Cond.arrayClass .float) ∈ lw_tbl))
  obtain ⟨c5, h5⟩ := e_arr1 (ty := .double) (by intro C h; cases h) (ht _ (by decide +kernel : (Cond.arrayClass .double) ∈ lw_tbl))
  obtain ⟨c6, h6⟩ := e_arr2 (C := "RoundingAuditor$Ledger") (ht _ (by decide +kernel : (Cond.arrayOver (.object "RoundingAuditor$Ledger")) ∈ lw_tbl))
  obtain ⟨c7, h7⟩ := e_arr2 (C := "RoundingAuditor$Exact") (ht _ (by decide +kernel : (Cond.arrayOver (.object "RoundingAuditor$Exact")) ∈ lw_tbl))
  obtain ⟨c8, h8⟩ := e_arr2 (C := "java/lang/Object") (ht _ (by decide +kernel : (Cond.arrayOver (.object "java/lang/Object")) ∈ lw_tbl))
  refine ⟨fun i => [c0, c1, c2, c3, c4, c5, c6, c7, c8, 0, 0, 0, 0, 0, 0, 0, 0, 0, 0, 0, e0, mi].getD i 0, rfl, rfl, ?_⟩
  intro k q hq
  match k, hq with
  | 0, hq => cases hq; exact h0
  | 1, hq => cases hq; exact h1
  | 2, hq => cases hq; exact h2
  | 3, hq => cases hq; exact h3
  | 4, hq => cases hq; exact h4
  | 5, hq => cases hq; exact h5
  | 6, hq => cases hq; exact h6
  | 7, hq => cases hq; exact h7
  | 8, hq => cases hq; exact h8
  | k + 9, hq => cases hq
set_option maxRecDepth 100000 in
theorem e_xNF : ∀ q ∈ xNF, (.fieldLinkNest q.1 q.2.1 q.2.2.1 q.2.2.2.1 q.2.2.2.2.1 q.2.2.2.2.2 : Cond) ∈ lw_tbl := by decide +kernel
set_option maxRecDepth 100000 in
theorem e_xNM : ∀ q ∈ xNM, (.methodLinkNest q.1 q.2.1 q.2.2.1 q.2.2.2 : Cond) ∈ lw_tbl := by decide +kernel
set_option maxRecDepth 100000 in
theorem e_xND : ∀ q ∈ xND, (.declares q : Cond) ∈ lw_tbl := by decide +kernel
set_option maxRecDepth 100000 in
theorem e_xNC : ∀ q ∈ xNC, (.castable q.1 q.2 : Cond) ∈ lw_tbl := by decide +kernel
set_option maxRecDepth 100000 in
theorem e_xNI : ∀ q ∈ xNI, (Cond.declares q.2.1) ∈ lw_tbl ∧ (Cond.interfaceMethod q.2.1.cls q.2.1.cls q.2.1.name q.2.1.desc) ∈ lw_tbl ∧ (Cond.publicMethod q.2.2) ∈ lw_tbl ∧ (Cond.unhidden q.1 q.2.1.name q.2.1.desc) ∈ lw_tbl ∧ (Cond.castable q.1 q.2.1.cls) ∈ lw_tbl := by decide +kernel
theorem e_lid {C : String} {s : State} {A : Array Value} (h : (Cond.landsInDefault C xLess xLess).before A s = true) : va_Nw (.landsInDefault C xLess xLess) s := by
  have hv : s.vm.Alike s.vm := (State.WarmedH.refl s).alike
  have e := Cond.landsInDefault_setVm (args := A) (args' := #[]) (s := s) (vm' := s.vm) hv (cls := C) (x := xLess) (y := xLess) (State.methodFound?_setVm hv _ _ _)
  have h2 : (Cond.landsInDefault C xLess xLess).before #[] (s.setVm s.vm) = true := by first | (rw [e]; exact h) | (rw [← e]; exact h)
  exact h2
set_option maxRecDepth 100000 in
theorem e_dw {s : State} {b : Nat} (h : (Jvm.Cond.and given_1 narrow_1).before #[Value.ref b] s = true) : ∀ w ∈ defaultWords_1, va_Nw w s := by
  have hs := flat_of_before _ h
  have hm : ∀ w ∈ defaultWords_1, w.onTables = true ∧ w ∈ flatC (Jvm.Cond.and given_1 narrow_1) := by decide +kernel
  intro w hw
  exact va_Nw.of (hm w hw).1 (hs w (hm w hw).2)
set_option maxRecDepth 100000 in
theorem e_words {s : State} {b : Nat} (ht : ∀ w ∈ lw_tbl, w.before #[Value.ref b] s = true) (h : (Jvm.Cond.and given_1 narrow_1).before #[Value.ref b] s = true) : XN s := by
  have hs := flat_of_before _ h
  refine ⟨fun q hq => va_Nw.of rfl (ht _ (e_xNF q hq)), fun q hq => va_Nw.of rfl (ht _ (e_xNM q hq)), fun q hq => va_Nw.of rfl (ht _ (e_xND q hq)), fun q hq => va_Nw.of rfl (ht _ (e_xNC q hq)), fun q hq => ?_, fun q hq => ?_, ⟨va_AO.of (ht _ (by decide +kernel)), va_AO.of (ht _ (by decide +kernel)), va_AO.of (ht _ (by decide +kernel))⟩, ⟨va_Mi.of (hs _ (by decide +kernel)), va_Nw.of rfl (ht _ (by decide +kernel))⟩, e_lid (hs _ (by decide +kernel)), e_lid (hs _ (by decide +kernel)), fun w hw => e_dw h w hw⟩
  · obtain ⟨h1, h2, h3, h4, h5⟩ := e_xNI q hq
    exact va_Fw.of (ht _ h1) (ht _ h2) (ht _ h3) (ht _ h4) (ht _ h5)
  · have hm : ∀ q ∈ xNN, (Cond.not (.castable q.1 q.2)) ∈ flatC (Jvm.Cond.and given_1 narrow_1) := by decide +kernel
    exact va_Nc.of (hs _ (hm q hq))
