/-! virtual methods of ledgers -/
/-! ledgers by their kind: the methods of the two classes as one. Printed by gen/virt.py -/
theorem vx_mono {l : Launch} {y : MethodName} {ws : List Cond} {rm : Room} {Pc : Array Value → State → Prop} {Qc Qc' : Array Value → State → Outcome → State → Prop} {XC XC' : String → State → State → Prop} {mc ms : Nat} {free : Addr → Prop} (hM : vx_Met l y ws rm Pc Qc XC mc ms free) (hq : ∀ a s o t, Qc a s o t → Qc' a s o t) (hx : ∀ E s t, XC E s t → XC' E s t) : vx_Met l y ws rm Pc Qc' XC' mc ms free := by
  intro p e ha hc hk s m args below hf happ hP hK
  obtain ⟨n, o, h1, h2, h3, h4⟩ := hM p e ha hc hk s m args below hf happ hP hK
  refine ⟨n, o, h1, h2, h3, ?_⟩
  rcases h4 with ⟨h4, h5⟩ | ⟨q, ho, E, ce, L, h6, h7⟩
  · exact Or.inl ⟨hq _ _ _ _ h4, h5⟩
  · exact Or.inr ⟨q, ho, E, ce, L, hx _ _ _ h6, h7⟩
theorem va_mono {l : Launch} {y : MethodName} {ws : List Cond} {rm : Room} {Pc : Array Value → State → Prop} {Qc Qc' : Array Value → State → Outcome → State → Prop} {mc ms : Nat} {free : Addr → Prop} (hM : Met l y ws rm Pc Qc mc ms free) (hq : ∀ a s o t, Qc a s o t → Qc' a s o t) : Met l y ws rm Pc Qc' mc ms free := by
  intro p e ha hc hk s m args below hf happ hP hK
  obtain ⟨n, o, h1, h2, h3, h4, h5⟩ := hM p e ha hc hk s m args below hf happ hP hK
  exact ⟨n, o, h1, h2, h3, hq _ _ _ _ h4, h5⟩
theorem SXi1.map {S S' : Type} {l : Launch} {D : va_G} {ta : Nat → ClassId} {y : MethodName} {cc : ByteArray} {nL : Nat} {ret : FieldType} {d : Nat} {av : List Value} {wc : va_W} {wo : S → va_W} {wo' : S' → va_W} {mc ms : Nat} {K : Int32 → S → Prop} {K' : Int32 → S' → Prop} {E : String → S → Prop} {E' : String → S' → Prop} (f : S → S') (hw : ∀ u, wo u = wo' (f u)) (h : SXi1 l D ta y cc nL ret d av wc wo mc ms K E) (hk : ∀ r u, K r u → K' r (f u)) (he : ∀ En u, E En u → E' En (f u)) : SXi1 l D ta y cc nL ret d av wc wo' mc ms K' E' := fun sz => vx_mono (h sz) (fun a s o t ⟨⟨r, u, ho, hp, hB⟩, hF⟩ => ⟨⟨r, f u, ho, hk r u hp, by show va_P D xCl (wo' (f u)) t.heap ∧ va_D (va_A wc sz) (wo' (f u)); rw [← hw]; exact hB⟩, hF⟩) (fun E s t ⟨u, _, ⟨hp, hB⟩, hF⟩ => ⟨f u, trivial, ⟨he E u hp, by show va_P D xCl (wo' (f u)) t.heap ∧ va_D (va_A wc sz) (wo' (f u)); rw [← hw]; exact hB⟩, hF⟩)
theorem SMi1.map {S S' : Type} {l : Launch} {D : va_G} {ta : Nat → ClassId} {y : MethodName} {cc : ByteArray} {nL : Nat} {ret : FieldType} {d : Nat} {av : List Value} {wc : va_W} {wo : S → va_W} {wo' : S' → va_W} {mc ms : Nat} {K : Int32 → S → Prop} {K' : Int32 → S' → Prop} (f : S → S') (hw : ∀ u, wo u = wo' (f u)) (h : SMi1 l D ta y cc nL ret d av wc wo mc ms K) (hk : ∀ r u, K r u → K' r (f u)) : SMi1 l D ta y cc nL ret d av wc wo' mc ms K' := fun sz => va_mono (h sz) (fun a s o t ⟨⟨r, u, ho, hp, hB⟩, hF⟩ => ⟨⟨r, f u, ho, hk r u hp, by show va_P D xCl (wo' (f u)) t.heap ∧ va_D (va_A wc sz) (wo' (f u)); rw [← hw]; exact hB⟩, hF⟩)
def amN (f : Nat → UInt64) : Nat → UInt32 := fun i => (f i).toUInt32
def amW (f : Nat → UInt32) : Nat → UInt64 := fun i => (f i).toUInt64
theorem amN_W (f : Nat → UInt32) : (fun i => (amW f i).toUInt32) = f := funext fun i => by unfold amW; simp
def yL_at (kd : Bool) : MethodName := cond kd yX5_at yX6_at
def cL_at (kd : Bool) : ByteArray := cond kd cX5_at cX6_at
def nL_at (kd : Bool) : Nat := cond kd 2 2
theorem hL_at (kd : Bool) : Cond.instanceMethod (yL_at kd) ∈ lw_all ∧ Cond.initialized (yL_at kd).cls ∈ lw_all ∧ Cond.code (yL_at kd) (cL_at kd) (nL_at kd) (some FieldType.double) ∈ lw_all ∧ nL_at kd ≤ 45 := by
  cases kd
  · exact ⟨q621, q80, q622, by decide⟩
  · exact ⟨q624, q79, q625, by decide⟩
def wL_at (kd : Bool) (p0 : Int32) (ln : Nat) (am : Nat → UInt64) (K : UInt64 → Prop) : Prop := match kd with | true => wX5_at p0 ln am K | false => wX6_at p0 ln (amN am) K
theorem tL_at (kd : Bool) {l : Launch} {D : va_G} {ta : Nat → ClassId} {h0 : Nat} {h0a : Nat} {h0d : Nat} {h0g : Nat} {gc : Int32} {h0m : Nat} {ln : Nat} {am : Nat → UInt64} {p0 : Int32} {K : UInt64 → Prop} (hlt : l.stackTraces = false) (h : wL_at kd p0 ln am K) : SMd0 l D ta (yL_at kd) (cL_at kd) (nL_at kd) FieldType.double 1 [.ref h0, .int p0] [(h0, .inr (lci kd, [.ref h0a, .ref h0d, .ref h0g, .int gc, .ref h0m])), (h0m, .inl (lamC kd ta ln am))] [(h0, .inr (lci kd, [.ref h0a, .ref h0d, .ref h0g, .int gc, .ref h0m])), (h0m, .inl (lamC kd ta ln am))] 0 0 K := by
  cases kd
  · exact tX6_at hlt h
  · exact tX5_at hlt h
def wL_at_X (kd : Bool) (p0 : Int32) (ln : Nat) (am : Nat → UInt64) (K : UInt64 → Prop) (E : String → Prop) : Prop := match kd with | true => wX5_at_X p0 ln am K E | false => wX6_at_X p0 ln (amN am) K E
theorem tL_at_X (kd : Bool) {l : Launch} {D : va_G} {ta : Nat → ClassId} {h0 : Nat} {h0a : Nat} {h0d : Nat} {h0g : Nat} {gc : Int32} {h0m : Nat} {ln : Nat} {am : Nat → UInt64} {p0 : Int32} {K : UInt64 → Prop} {E : String → Prop} (hlt : l.stackTraces = false) (h : wL_at_X kd p0 ln am K E) : SXd0 l D ta (yL_at kd) (cL_at kd) (nL_at kd) FieldType.double 1 [.ref h0, .int p0] [(h0, .inr (lci kd, [.ref h0a, .ref h0d, .ref h0g, .int gc, .ref h0m])), (h0m, .inl (lamC kd ta ln am))] [(h0, .inr (lci kd, [.ref h0a, .ref h0d, .ref h0g, .int gc, .ref h0m])), (h0m, .inl (lamC kd ta ln am))] 3 222 K E := by
  cases kd
  · exact tX6_at_X hlt h
  · exact tX5_at_X hlt h
def yL_put (kd : Bool) : MethodName := cond kd yX5_put yX6_put
def cL_put (kd : Bool) : ByteArray := cond kd cX5_put cX6_put
def nL_put (kd : Bool) : Nat := cond kd 6 5
theorem hL_put (kd : Bool) : Cond.instanceMethod (yL_put kd) ∈ lw_all ∧ Cond.initialized (yL_put kd).cls ∈ lw_all ∧ Cond.code (yL_put kd) (cL_put kd) (nL_put kd) (some FieldType.boolean) ∈ lw_all ∧ nL_put kd ≤ 45 := by
  cases kd
  · exact ⟨q581, q80, q582, by decide⟩
  · exact ⟨q590, q79, q591, by decide⟩
def wL_put (kd : Bool) (p0 : Int32) (p1 : Int64) (ln : Nat) (am : Nat → UInt64) (K : Int32 → (Nat → UInt64) → Prop) : Prop := match kd with | true => wX5_put p0 p1 ln am K | false => wX6_put p0 p1 ln (amN am) (fun r f => K r (amW f))
theorem tL_put (kd : Bool) {l : Launch} {D : va_G} {ta : Nat → ClassId} {h0 : Nat} {h0a : Nat} {h0d : Nat} {h0g : Nat} {gc : Int32} {h0m : Nat} {ln : Nat} {am : Nat → UInt64} {p0 : Int32} {p1 : Int64} {K : Int32 → (Nat → UInt64) → Prop} (hlt : l.stackTraces = false) (h : wL_put kd p0 p1 ln am K) : SMi1 l D ta (yL_put kd) (cL_put kd) (nL_put kd) FieldType.boolean 3 [.ref h0, .int p0, .long p1] [(h0, .inr (lci kd, [.ref h0a, .ref h0d, .ref h0g, .int gc, .ref h0m])), (h0m, .inl (lamC kd ta ln am))] (fun (am' : Nat → UInt64) => [(h0, .inr (lci kd, [.ref h0a, .ref h0d, .ref h0g, .int gc, .ref h0m])), (h0m, .inl (lamC kd ta ln am'))]) 0 0 K := by
  cases kd
  · exact SMi1.map (K := fun r f => K r (amW f)) amW (fun f => by (try simp only [lamC, amN_W]); (try rfl)) (tX6_put hlt h) (fun _ _ h => h)
  · exact tX5_put hlt h
def wL_put_X (kd : Bool) (p0 : Int32) (p1 : Int64) (ln : Nat) (am : Nat → UInt64) (K : Int32 → (Nat → UInt64) → Prop) (E : String → (Nat → UInt64) → Prop) : Prop := match kd with | true => wX5_put_X p0 p1 ln am K E | false => wX6_put_X p0 p1 ln (amN am) (fun r f => K r (amW f)) (fun En f => E En (amW f))
theorem tL_put_X (kd : Bool) {l : Launch} {D : va_G} {ta : Nat → ClassId} {h0 : Nat} {h0a : Nat} {h0d : Nat} {h0g : Nat} {gc : Int32} {h0m : Nat} {ln : Nat} {am : Nat → UInt64} {p0 : Int32} {p1 : Int64} {K : Int32 → (Nat → UInt64) → Prop} {E : String → (Nat → UInt64) → Prop} (hlt : l.stackTraces = false) (h : wL_put_X kd p0 p1 ln am K E) : SXi1 l D ta (yL_put kd) (cL_put kd) (nL_put kd) FieldType.boolean 3 [.ref h0, .int p0, .long p1] [(h0, .inr (lci kd, [.ref h0a, .ref h0d, .ref h0g, .int gc, .ref h0m])), (h0m, .inl (lamC kd ta ln am))] (fun (am' : Nat → UInt64) => [(h0, .inr (lci kd, [.ref h0a, .ref h0d, .ref h0g, .int gc, .ref h0m])), (h0m, .inl (lamC kd ta ln am'))]) 3 222 K E := by
  cases kd
  · exact SXi1.map (K := fun r f => K r (amW f)) (E := fun En f => E En (amW f)) amW (fun f => by (try simp only [lamC, amN_W]); (try rfl)) (tX6_put_X hlt h) (fun _ _ h => h) (fun _ _ h => h)
  · exact tX5_put_X hlt h
def yL_bits (kd : Bool) : MethodName := cond kd yX5_bits yX6_bits
def cL_bits (kd : Bool) : ByteArray := cond kd cX5_bits cX6_bits
def nL_bits (kd : Bool) : Nat := cond kd 3 3
theorem hL_bits (kd : Bool) : Cond.instanceMethod (yL_bits kd) ∈ lw_all ∧ Cond.initialized (yL_bits kd).cls ∈ lw_all ∧ Cond.code (yL_bits kd) (cL_bits kd) (nL_bits kd) (some FieldType.long) ∈ lw_all ∧ nL_bits kd ≤ 45 := by
  cases kd
  · exact ⟨q630, q80, q631, by decide⟩
  · exact ⟨q633, q79, q634, by decide⟩
def wL_bits (kd : Bool) (p0 : UInt64) (K : Int64 → Prop) : Prop := match kd with | true => wX5_bits p0 K | false => wX6_bits p0 K
theorem tL_bits (kd : Bool) {l : Launch} {D : va_G} {ta : Nat → ClassId} {h0 : Nat} {p0 : UInt64} {K : Int64 → Prop} (hlt : l.stackTraces = false) (h : wL_bits kd p0 K) : SMl0 l D ta (yL_bits kd) (cL_bits kd) (nL_bits kd) FieldType.long 3 [.ref h0, .double p0] [] [] 0 0 K := by
  cases kd
  · exact tX6_bits hlt h
  · exact tX5_bits hlt h
def yL_isWide (kd : Bool) : MethodName := cond kd yX5_isWide yX6_isWide
def cL_isWide (kd : Bool) : ByteArray := cond kd cX5_isWide cX6_isWide
def nL_isWide (kd : Bool) : Nat := cond kd 1 1
theorem hL_isWide (kd : Bool) : Cond.instanceMethod (yL_isWide kd) ∈ lw_all ∧ Cond.initialized (yL_isWide kd).cls ∈ lw_all ∧ Cond.code (yL_isWide kd) (cL_isWide kd) (nL_isWide kd) (some FieldType.boolean) ∈ lw_all ∧ nL_isWide kd ≤ 45 := by
  cases kd
  · exact ⟨q671, q80, q672, by decide⟩
  · exact ⟨q674, q79, q675, by decide⟩
def wL_isWide (kd : Bool) (K : Int32 → Prop) : Prop := match kd with | true => wX5_isWide  K | false => wX6_isWide  K
theorem tL_isWide (kd : Bool) {l : Launch} {D : va_G} {ta : Nat → ClassId} {h0 : Nat} {K : Int32 → Prop} (hlt : l.stackTraces = false) (h : wL_isWide kd K) : SMi0 l D ta (yL_isWide kd) (cL_isWide kd) (nL_isWide kd) FieldType.boolean 1 [.ref h0] [] [] 0 0 K := by
  cases kd
  · exact tX6_isWide hlt h
  · exact tX5_isWide hlt h
def yL_least (kd : Bool) : MethodName := cond kd yX5_least yX6_least
def cL_least (kd : Bool) : ByteArray := cond kd cX5_least cX6_least
def nL_least (kd : Bool) : Nat := cond kd 1 1
theorem hL_least (kd : Bool) : Cond.instanceMethod (yL_least kd) ∈ lw_all ∧ Cond.initialized (yL_least kd).cls ∈ lw_all ∧ Cond.code (yL_least kd) (cL_least kd) (nL_least kd) (some FieldType.double) ∈ lw_all ∧ nL_least kd ≤ 45 := by
  cases kd
  · exact ⟨q696, q80, q697, by decide⟩
  · exact ⟨q700, q79, q701, by decide⟩
def wL_least (kd : Bool) (K : UInt64 → Prop) : Prop := match kd with | true => wX5_least  K | false => wX6_least  K
theorem tL_least (kd : Bool) {l : Launch} {D : va_G} {ta : Nat → ClassId} {h0 : Nat} {K : UInt64 → Prop} (hlt : l.stackTraces = false) (h : wL_least kd K) : SMd0 l D ta (yL_least kd) (cL_least kd) (nL_least kd) FieldType.double 1 [.ref h0] [] [] 0 0 K := by
  cases kd
  · exact tX6_least hlt h
  · exact tX5_least hlt h
def yL_worked (kd : Bool) : MethodName := cond kd yX5_worked yX6_worked
def cL_worked (kd : Bool) : ByteArray := cond kd cX5_worked cX6_worked
def nL_worked (kd : Bool) : Nat := cond kd 6 8
theorem hL_worked (kd : Bool) : Cond.instanceMethod (yL_worked kd) ∈ lw_all ∧ Cond.initialized (yL_worked kd).cls ∈ lw_all ∧ Cond.code (yL_worked kd) (cL_worked kd) (nL_worked kd) (some FieldType.double) ∈ lw_all ∧ nL_worked kd ≤ 45 := by
  cases kd
  · exact ⟨q789, q80, q790, by decide⟩
  · exact ⟨q844, q79, q845, by decide⟩
def wL_worked (kd : Bool) (p0 : UInt64) (p1 : UInt64) (p2 : Int32) (K : UInt64 → Prop) : Prop := match kd with | true => wX5_worked p0 p1 p2 K | false => wX6_worked p0 p1 p2 K
theorem tL_worked (kd : Bool) {l : Launch} {D : va_G} {ta : Nat → ClassId} {h0 : Nat} {p0 : UInt64} {p1 : UInt64} {p2 : Int32} {K : UInt64 → Prop} (hlt : l.stackTraces = false) (h : wL_worked kd p0 p1 p2 K) : SMd0 l D ta (yL_worked kd) (cL_worked kd) (nL_worked kd) FieldType.double 20 [.ref h0, .double p0, .double p1, .int p2] [] [] 0 0 K := by
  cases kd
  · exact tX6_worked hlt h
  · exact tX5_worked hlt h
def yL_whole (kd : Bool) : MethodName := cond kd yX5_whole yX6_whole
def cL_whole (kd : Bool) : ByteArray := cond kd cX5_whole cX6_whole
def nL_whole (kd : Bool) : Nat := cond kd 4 5
theorem hL_whole (kd : Bool) : Cond.instanceMethod (yL_whole kd) ∈ lw_all ∧ Cond.initialized (yL_whole kd).cls ∈ lw_all ∧ Cond.code (yL_whole kd) (cL_whole kd) (nL_whole kd) (some FieldType.long) ∈ lw_all ∧ nL_whole kd ≤ 45 := by
  cases kd
  · exact ⟨q872, q80, q873, by decide⟩
  · exact ⟨q875, q79, q876, by decide⟩
def wL_whole (kd : Bool) (p0 : UInt64) (p1 : Int32) (K : Int64 → Prop) : Prop := match kd with | true => wX5_whole p0 p1 K | false => wX6_whole p0 p1 K
theorem tL_whole (kd : Bool) {l : Launch} {D : va_G} {ta : Nat → ClassId} {h0 : Nat} {p0 : UInt64} {p1 : Int32} {K : Int64 → Prop} (hlt : l.stackTraces = false) (h : wL_whole kd p0 p1 K) : SMl0 l D ta (yL_whole kd) (cL_whole kd) (nL_whole kd) FieldType.long 1 [.ref h0, .double p0, .int p1] [] [] 0 0 K := by
  cases kd
  · exact tX6_whole hlt h
  · exact tX5_whole hlt h
def yL_add (kd : Bool) : MethodName := cond kd yX5_add yX6_add
def cL_add (kd : Bool) : ByteArray := cond kd cX5_add cX6_add
def nL_add (kd : Bool) : Nat := cond kd 5 5
theorem hL_add (kd : Bool) : Cond.instanceMethod (yL_add kd) ∈ lw_all ∧ Cond.initialized (yL_add kd).cls ∈ lw_all ∧ Cond.code (yL_add kd) (cL_add kd) (nL_add kd) (some FieldType.double) ∈ lw_all ∧ nL_add kd ≤ 45 := by
  cases kd
  · exact ⟨q1149, q80, q1150, by decide⟩
  · exact ⟨q1152, q79, q1153, by decide⟩
def wL_add (kd : Bool) (p0 : UInt64) (p1 : UInt64) (K : UInt64 → Prop) : Prop := match kd with | true => wX5_add p0 p1 K | false => wX6_add p0 p1 K
theorem tL_add (kd : Bool) {l : Launch} {D : va_G} {ta : Nat → ClassId} {h0 : Nat} {p0 : UInt64} {p1 : UInt64} {K : UInt64 → Prop} (hlt : l.stackTraces = false) (h : wL_add kd p0 p1 K) : SMd0 l D ta (yL_add kd) (cL_add kd) (nL_add kd) FieldType.double 1 [.ref h0, .double p0, .double p1] [] [] 0 0 K := by
  cases kd
  · exact tX6_add hlt h
  · exact tX5_add hlt h
def yL_nearest (kd : Bool) : MethodName := cond kd yX5_nearest yX6_nearest
def cL_nearest (kd : Bool) : ByteArray := cond kd cX5_nearest cX6_nearest
def nL_nearest (kd : Bool) : Nat := cond kd 2 2
theorem hL_nearest (kd : Bool) : Cond.instanceMethod (yL_nearest kd) ∈ lw_all ∧ Cond.initialized (yL_nearest kd).cls ∈ lw_all ∧ Cond.code (yL_nearest kd) (cL_nearest kd) (nL_nearest kd) (some FieldType.double) ∈ lw_all ∧ nL_nearest kd ≤ 45 := by
  cases kd
  · exact ⟨q1394, q80, q1395, by decide⟩
  · exact ⟨q1406, q79, q1407, by decide⟩
def wL_nearest (kd : Bool) (w : Nat → Int32) (K : UInt64 → (Nat → Int32) → Prop) : Prop := match kd with | true => wX5_nearest w K | false => wX6_nearest w K
theorem tL_nearest (kd : Bool) {l : Launch} {D : va_G} {ta : Nat → ClassId} {h0 : Nat} {q0 : Nat} {q0w : Nat} {w : Nat → Int32} {K : UInt64 → (Nat → Int32) → Prop} (hlt : l.stackTraces = false) (h : wL_nearest kd w K) : SMd1 l D ta (yL_nearest kd) (cL_nearest kd) (nL_nearest kd) FieldType.double 6 [.ref h0, .ref q0] [(q0, .inr (1, [.ref q0w])), (q0w, .inl (ta 2, 40, .inl w))] (fun (w' : Nat → Int32) => [(q0, .inr (1, [.ref q0w])), (q0w, .inl (ta 2, 40, .inl w'))]) 0 0 K := by
  cases kd
  · exact tX6_nearest hlt h
  · exact tX5_nearest hlt h
theorem sL_account (kd : Bool) : Cond.selects (lnm kd) ⟨"RoundingAuditor$Ledger", "account", "(I)I"⟩ yX4_account ∈ lw_all := by
  cases kd
  · exact q645
  · exact q646
theorem cdL_account : ("RoundingAuditor$Ledger" : String) ≠ "java/lang/invoke/MethodHandle" ∧ ("RoundingAuditor$Ledger" : String) ≠ "java/lang/invoke/VarHandle" ∧ (parseMethodDescriptor "(I)I").map (fun d => d.parameters.length) = some 1 := by decide +kernel
theorem sL_at (kd : Bool) : Cond.selects (lnm kd) ⟨"RoundingAuditor$Ledger", "at", "(I)D"⟩ (yL_at kd) ∈ lw_all := by
  cases kd
  · exact q620
  · exact q623
theorem cdL_at : ("RoundingAuditor$Ledger" : String) ≠ "java/lang/invoke/MethodHandle" ∧ ("RoundingAuditor$Ledger" : String) ≠ "java/lang/invoke/VarHandle" ∧ (parseMethodDescriptor "(I)D").map (fun d => d.parameters.length) = some 1 := by decide +kernel
theorem sL_bits (kd : Bool) : Cond.selects (lnm kd) ⟨"RoundingAuditor$Ledger", "bits", "(D)J"⟩ (yL_bits kd) ∈ lw_all := by
  cases kd
  · exact q629
  · exact q632
theorem cdL_bits : ("RoundingAuditor$Ledger" : String) ≠ "java/lang/invoke/MethodHandle" ∧ ("RoundingAuditor$Ledger" : String) ≠ "java/lang/invoke/VarHandle" ∧ (parseMethodDescriptor "(D)J").map (fun d => d.parameters.length) = some 1 := by decide +kernel
theorem sL_book (kd : Bool) : Cond.selects (lnm kd) ⟨"RoundingAuditor$Ledger", "book", "(III)V"⟩ yX4_book ∈ lw_all := by
  cases kd
  · exact q607
  · exact q608
theorem cdL_book : ("RoundingAuditor$Ledger" : String) ≠ "java/lang/invoke/MethodHandle" ∧ ("RoundingAuditor$Ledger" : String) ≠ "java/lang/invoke/VarHandle" ∧ (parseMethodDescriptor "(III)V").map (fun d => d.parameters.length) = some 3 := by decide +kernel
theorem sL_copy (kd : Bool) : Cond.selects (lnm kd) ⟨"RoundingAuditor$Ledger", "copy", "(ILRoundingAuditor$Ledger;I)V"⟩ yX4_copy ∈ lw_all := by
  cases kd
  · exact q727
  · exact q728
theorem cdL_copy : ("RoundingAuditor$Ledger" : String) ≠ "java/lang/invoke/MethodHandle" ∧ ("RoundingAuditor$Ledger" : String) ≠ "java/lang/invoke/VarHandle" ∧ (parseMethodDescriptor "(ILRoundingAuditor$Ledger;I)V").map (fun d => d.parameters.length) = some 3 := by decide +kernel
theorem sL_day (kd : Bool) : Cond.selects (lnm kd) ⟨"RoundingAuditor$Ledger", "day", "(I)I"⟩ yX4_day ∈ lw_all := by
  cases kd
  · exact q651
  · exact q652
theorem cdL_day : ("RoundingAuditor$Ledger" : String) ≠ "java/lang/invoke/MethodHandle" ∧ ("RoundingAuditor$Ledger" : String) ≠ "java/lang/invoke/VarHandle" ∧ (parseMethodDescriptor "(I)I").map (fun d => d.parameters.length) = some 1 := by decide +kernel
theorem sL_give (kd : Bool) : Cond.selects (lnm kd) ⟨"RoundingAuditor$Ledger", "give", "(I)Z"⟩ yX4_give ∈ lw_all := by
  cases kd
  · exact q922
  · exact q923
theorem cdL_give : ("RoundingAuditor$Ledger" : String) ≠ "java/lang/invoke/MethodHandle" ∧ ("RoundingAuditor$Ledger" : String) ≠ "java/lang/invoke/VarHandle" ∧ (parseMethodDescriptor "(I)Z").map (fun d => d.parameters.length) = some 1 := by decide +kernel
theorem sL_given (kd : Bool) : Cond.selects (lnm kd) ⟨"RoundingAuditor$Ledger", "given", "(I)I"⟩ yX4_given ∈ lw_all := by
  cases kd
  · exact q1204
  · exact q1205
theorem cdL_given : ("RoundingAuditor$Ledger" : String) ≠ "java/lang/invoke/MethodHandle" ∧ ("RoundingAuditor$Ledger" : String) ≠ "java/lang/invoke/VarHandle" ∧ (parseMethodDescriptor "(I)I").map (fun d => d.parameters.length) = some 1 := by decide +kernel
theorem sL_givenCount (kd : Bool) : Cond.selects (lnm kd) ⟨"RoundingAuditor$Ledger", "givenCount", "()I"⟩ yX4_givenCount ∈ lw_all := by
  cases kd
  · exact q928
  · exact q929
theorem cdL_givenCount : ("RoundingAuditor$Ledger" : String) ≠ "java/lang/invoke/MethodHandle" ∧ ("RoundingAuditor$Ledger" : String) ≠ "java/lang/invoke/VarHandle" ∧ (parseMethodDescriptor "()I").map (fun d => d.parameters.length) = some 0 := by decide +kernel
theorem sL_isLike (kd : Bool) : Cond.selects (lnm kd) ⟨"RoundingAuditor$Ledger", "isLike", "(LRoundingAuditor$Ledger;)Z"⟩ yX4_isLike ∈ lw_all := by
  cases kd
  · exact q753
  · exact q754
theorem cdL_isLike : ("RoundingAuditor$Ledger" : String) ≠ "java/lang/invoke/MethodHandle" ∧ ("RoundingAuditor$Ledger" : String) ≠ "java/lang/invoke/VarHandle" ∧ (parseMethodDescriptor "(LRoundingAuditor$Ledger;)Z").map (fun d => d.parameters.length) = some 1 := by decide +kernel
theorem sL_isWide (kd : Bool) : Cond.selects (lnm kd) ⟨"RoundingAuditor$Ledger", "isWide", "()Z"⟩ (yL_isWide kd) ∈ lw_all := by
  cases kd
  · exact q670
  · exact q673
theorem cdL_isWide : ("RoundingAuditor$Ledger" : String) ≠ "java/lang/invoke/MethodHandle" ∧ ("RoundingAuditor$Ledger" : String) ≠ "java/lang/invoke/VarHandle" ∧ (parseMethodDescriptor "()Z").map (fun d => d.parameters.length) = some 0 := by decide +kernel
theorem sL_least (kd : Bool) : Cond.selects (lnm kd) ⟨"RoundingAuditor$Ledger", "least", "()D"⟩ (yL_least kd) ∈ lw_all := by
  cases kd
  · exact q695
  · exact q699
theorem cdL_least : ("RoundingAuditor$Ledger" : String) ≠ "java/lang/invoke/MethodHandle" ∧ ("RoundingAuditor$Ledger" : String) ≠ "java/lang/invoke/VarHandle" ∧ (parseMethodDescriptor "()D").map (fun d => d.parameters.length) = some 0 := by decide +kernel
theorem sL_length (kd : Bool) : Cond.selects (lnm kd) ⟨"RoundingAuditor$Ledger", "length", "()I"⟩ yX4_length ∈ lw_all := by
  cases kd
  · exact q664
  · exact q665
theorem cdL_length : ("RoundingAuditor$Ledger" : String) ≠ "java/lang/invoke/MethodHandle" ∧ ("RoundingAuditor$Ledger" : String) ≠ "java/lang/invoke/VarHandle" ∧ (parseMethodDescriptor "()I").map (fun d => d.parameters.length) = some 0 := by decide +kernel
theorem sL_nearest (kd : Bool) : Cond.selects (lnm kd) ⟨"RoundingAuditor$Ledger", "nearest", "(LRoundingAuditor$Exact;)D"⟩ (yL_nearest kd) ∈ lw_all := by
  cases kd
  · exact q1393
  · exact q1405
theorem cdL_nearest : ("RoundingAuditor$Ledger" : String) ≠ "java/lang/invoke/MethodHandle" ∧ ("RoundingAuditor$Ledger" : String) ≠ "java/lang/invoke/VarHandle" ∧ (parseMethodDescriptor "(LRoundingAuditor$Exact;)D").map (fun d => d.parameters.length) = some 1 := by decide +kernel
theorem sL_put (kd : Bool) : Cond.selects (lnm kd) ⟨"RoundingAuditor$Ledger", "put", "(IJ)Z"⟩ (yL_put kd) ∈ lw_all := by
  cases kd
  · exact q580
  · exact q589
theorem cdL_put : ("RoundingAuditor$Ledger" : String) ≠ "java/lang/invoke/MethodHandle" ∧ ("RoundingAuditor$Ledger" : String) ≠ "java/lang/invoke/VarHandle" ∧ (parseMethodDescriptor "(IJ)Z").map (fun d => d.parameters.length) = some 2 := by decide +kernel
theorem sL_whole (kd : Bool) : Cond.selects (lnm kd) ⟨"RoundingAuditor$Ledger", "whole", "(DI)J"⟩ (yL_whole kd) ∈ lw_all := by
  cases kd
  · exact q871
  · exact q874
theorem cdL_whole : ("RoundingAuditor$Ledger" : String) ≠ "java/lang/invoke/MethodHandle" ∧ ("RoundingAuditor$Ledger" : String) ≠ "java/lang/invoke/VarHandle" ∧ (parseMethodDescriptor "(DI)J").map (fun d => d.parameters.length) = some 2 := by decide +kernel
theorem sL_worked (kd : Bool) : Cond.selects (lnm kd) ⟨"RoundingAuditor$Ledger", "worked", "(DDI)D"⟩ (yL_worked kd) ∈ lw_all := by
  cases kd
  · exact q788
  · exact q843
theorem cdL_worked : ("RoundingAuditor$Ledger" : String) ≠ "java/lang/invoke/MethodHandle" ∧ ("RoundingAuditor$Ledger" : String) ≠ "java/lang/invoke/VarHandle" ∧ (parseMethodDescriptor "(DDI)D").map (fun d => d.parameters.length) = some 3 := by decide +kernel
