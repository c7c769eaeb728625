/-! The X layer: a machine's frame over a bundled context g; a row an instruction. Printed by gen/layer.py -/
abbrev XG : Type := Program × Launch × Env × Room × State × MethodId × Array Value × List Frame × Method × Code × (State → Prop) × (Nat → Prop) × va_G × (Nat → ClassId)
abbrev xp (g : XG) : Program := g.1
abbrev xl (g : XG) : Launch := g.2.1
abbrev xe (g : XG) : Env := g.2.2.1
abbrev xr (g : XG) : Room := g.2.2.2.1
abbrev xs (g : XG) : State := g.2.2.2.2.1
abbrev xm (g : XG) : MethodId := g.2.2.2.2.2.1
abbrev xa (g : XG) : Array Value := g.2.2.2.2.2.2.1
abbrev xb (g : XG) : List Frame := g.2.2.2.2.2.2.2.1
abbrev xh (g : XG) : Method := g.2.2.2.2.2.2.2.2.1
abbrev xc (g : XG) : Code := g.2.2.2.2.2.2.2.2.2.1
abbrev xq (g : XG) : State → Prop := g.2.2.2.2.2.2.2.2.2.2.1
abbrev xA (g : XG) : Nat → Prop := g.2.2.2.2.2.2.2.2.2.2.2.1
abbrev xD (g : XG) : va_G := g.2.2.2.2.2.2.2.2.2.2.2.2.1
abbrev xT (g : XG) : Nat → ClassId := g.2.2.2.2.2.2.2.2.2.2.2.2.2
def xT0 : u_T := fun _ => ("", "", "", false)
/-- the classes of the claim, by number -/
def xCl : List vw_C := [(RX1, TX1, 7), (RX2, TX2, 1), (RJ2, TJ2, 3), (RX3, TX3, 36), (RX5, TX5, 5), (RX6, TX6, 5), (RX7, TX7, 6), (RX8, TX8, 7), (RX11, TX11, 1), (RX12, TX12, 1), (RX14, TX14, 1), (RX15, TX15, 1), (RX16, TX16, 1), (RX17, TX17, 1), (RX18, TX18, 1), (RX19, TX19, 1), (RX20, xT0, 0), (RX21, TX21, 2), (RX22, TX22, 2), (RX23, xT0, 0), (RX24, xT0, 0), (RX25, TX25, 8)]
/-- the classes of arrays, by number -/
def xTy (t : Nat → ClassId) : List (ClassId × FieldType) := [(t 0, .boolean), (t 1, .byte), (t 2, .int), (t 3, .long), (t 4, .float), (t 5, .double), (t 6, .object "RoundingAuditor$Ledger"), (t 7, .object "RoundingAuditor$Exact"), (t 8, .object "java/lang/Object")]
/-- the room of a method of depth d -/
def xR (d mc ms : Nat) : Room := { frames := 10 + d, cells := mc, slots := ms, locals := 11000 + 64 * d }
def xNF : List (String × Nat × String × String × String × String) := [("RoundingAuditor", 318, "RoundingAuditor$Tape", "way", "I", "RoundingAuditor"), ("RoundingAuditor", 272, "RoundingAuditor$Tape", "lefts", "[D", "RoundingAuditor"), ("RoundingAuditor", 276, "RoundingAuditor$Tape", "rights", "[D", "RoundingAuditor"), ("RoundingAuditor", 279, "RoundingAuditor$Tape", "results", "[D", "RoundingAuditor"), ("RoundingAuditor", 265, "RoundingAuditor$Tape", "count", "I", "RoundingAuditor"), ("RoundingAuditor", 247, "RoundingAuditor$Tape", "total", "D", "RoundingAuditor"), ("RoundingAuditor", 363, "RoundingAuditor$Orders", "least", "D", "RoundingAuditor"), ("RoundingAuditor", 360, "RoundingAuditor$Orders", "greatest", "D", "RoundingAuditor"), ("RoundingAuditor", 365, "RoundingAuditor$Orders", "isReached", "Z", "RoundingAuditor")]
def xNM : List (String × Nat × MethodName × String) := [("RoundingAuditor", 17, ⟨"RoundingAuditor$Exact", "<init>", "()V"⟩, "RoundingAuditor"), ("RoundingAuditor", 180, ⟨"RoundingAuditor$FromFirst", "<init>", "()V"⟩, "RoundingAuditor"), ("RoundingAuditor", 183, ⟨"RoundingAuditor$FromLast", "<init>", "()V"⟩, "RoundingAuditor"), ("RoundingAuditor", 186, ⟨"RoundingAuditor$Rising", "<init>", "()V"⟩, "RoundingAuditor"), ("RoundingAuditor", 189, ⟨"RoundingAuditor$Falling", "<init>", "()V"⟩, "RoundingAuditor"), ("RoundingAuditor", 192, ⟨"RoundingAuditor$ByAccount", "<init>", "()V"⟩, "RoundingAuditor"), ("RoundingAuditor", 195, ⟨"RoundingAuditor$ByDay", "<init>", "()V"⟩, "RoundingAuditor"), ("RoundingAuditor", 198, ⟨"RoundingAuditor$Given", "<init>", "()V"⟩, "RoundingAuditor"), ("RoundingAuditor", 201, ⟨"RoundingAuditor$Inside", "<init>", "()V"⟩, "RoundingAuditor"), ("RoundingAuditor", 204, ⟨"RoundingAuditor$Halves", "<init>", "()V"⟩, "RoundingAuditor"), ("RoundingAuditor", 210, ⟨"RoundingAuditor$Queue", "<init>", "()V"⟩, "RoundingAuditor"), ("RoundingAuditor", 213, ⟨"RoundingAuditor$Carried", "<init>", "()V"⟩, "RoundingAuditor"), ("RoundingAuditor", 216, ⟨"RoundingAuditor$CarriedApart", "<init>", "()V"⟩, "RoundingAuditor"), ("RoundingAuditor$Ordered", 3, ⟨"RoundingAuditor$Way", "<init>", "()V"⟩, "RoundingAuditor"), ("RoundingAuditor$FromFirst", 1, ⟨"RoundingAuditor$Ordered", "<init>", "()V"⟩, "RoundingAuditor"), ("RoundingAuditor$FromLast", 1, ⟨"RoundingAuditor$Ordered", "<init>", "()V"⟩, "RoundingAuditor"), ("RoundingAuditor$Sorted", 1, ⟨"RoundingAuditor$FromFirst", "<init>", "()V"⟩, "RoundingAuditor"), ("RoundingAuditor$Rising", 1, ⟨"RoundingAuditor$Sorted", "<init>", "()V"⟩, "RoundingAuditor"), ("RoundingAuditor$Falling", 1, ⟨"RoundingAuditor$Rising", "<init>", "()V"⟩, "RoundingAuditor"), ("RoundingAuditor$ByAccount", 1, ⟨"RoundingAuditor$Sorted", "<init>", "()V"⟩, "RoundingAuditor"), ("RoundingAuditor$ByDay", 1, ⟨"RoundingAuditor$Sorted", "<init>", "()V"⟩, "RoundingAuditor"), ("RoundingAuditor$Given", 1, ⟨"RoundingAuditor$Ordered", "<init>", "()V"⟩, "RoundingAuditor"), ("RoundingAuditor$Inside", 1, ⟨"RoundingAuditor$FromFirst", "<init>", "()V"⟩, "RoundingAuditor"), ("RoundingAuditor$Halves", 1, ⟨"RoundingAuditor$Way", "<init>", "()V"⟩, "RoundingAuditor"), ("RoundingAuditor$Blocks", 3, ⟨"RoundingAuditor$Way", "<init>", "()V"⟩, "RoundingAuditor"), ("RoundingAuditor$Queue", 3, ⟨"RoundingAuditor$Way", "<init>", "()V"⟩, "RoundingAuditor"), ("RoundingAuditor$Carried", 1, ⟨"RoundingAuditor$Way", "<init>", "()V"⟩, "RoundingAuditor"), ("RoundingAuditor$CarriedApart", 1, ⟨"RoundingAuditor$Way", "<init>", "()V"⟩, "RoundingAuditor")]
def xND : List MethodName := [⟨"java/lang/Object", "getClass", "()Ljava/lang/Class;"⟩, ⟨"java/lang/Throwable", "fillInStackTrace", "()Ljava/lang/Throwable;"⟩, ⟨"java/lang/Throwable", "<init>", "()V"⟩, ⟨"java/lang/Throwable", "<init>", "(Ljava/lang/String;)V"⟩, ⟨"java/lang/Exception", "<init>", "()V"⟩, ⟨"java/lang/Exception", "<init>", "(Ljava/lang/String;)V"⟩, ⟨"java/lang/RuntimeException", "<init>", "()V"⟩, ⟨"java/lang/RuntimeException", "<init>", "(Ljava/lang/String;)V"⟩, ⟨"java/lang/IndexOutOfBoundsException", "<init>", "()V"⟩, ⟨"java/lang/IndexOutOfBoundsException", "<init>", "(Ljava/lang/String;)V"⟩, ⟨"RoundingAuditor$Ordered", "put", "(LRoundingAuditor$Ledger;I)V"⟩, ⟨"RoundingAuditor$Sorted", "isAhead", "(LRoundingAuditor$Ledger;II)Z"⟩, ⟨"RoundingAuditor$Adder", "add", "(DD)D"⟩, ⟨"RoundingAuditor$Adder", "less", "(DD)D"⟩, ⟨"RoundingAuditor$Ledger", "put", "(IJ)Z"⟩, ⟨"RoundingAuditor$Ledger", "at", "(I)D"⟩, ⟨"RoundingAuditor$Ledger", "bits", "(D)J"⟩, ⟨"RoundingAuditor$Ledger", "isWide", "()Z"⟩, ⟨"RoundingAuditor$Ledger", "least", "()D"⟩, ⟨"RoundingAuditor$Ledger", "another", "(I)LRoundingAuditor$Ledger;"⟩, ⟨"RoundingAuditor$Ledger", "worked", "(DDI)D"⟩, ⟨"RoundingAuditor$Ledger", "whole", "(DI)J"⟩, ⟨"RoundingAuditor$Ledger", "nearest", "(LRoundingAuditor$Exact;)D"⟩, ⟨"RoundingAuditor$Way", "sum", "(LRoundingAuditor$Ledger;LRoundingAuditor$Tape;)D"⟩, ⟨"RoundingAuditor$Way", "add", "(LRoundingAuditor$Ledger;DDLRoundingAuditor$Tape;)D"⟩, ⟨"java/util/List", "size", "()I"⟩, ⟨"java/util/List", "get", "(I)Ljava/lang/Object;"⟩, ⟨"java/util/List", "clear", "()V"⟩, ⟨"java/util/List", "add", "(Ljava/lang/Object;)Z"⟩]
def xNC : List (String × String) := [("java/lang/NullPointerException", "java/lang/NullPointerException"), ("java/lang/NullPointerException", "java/lang/Object"), ("java/lang/ArithmeticException", "java/lang/ArithmeticException"), ("java/lang/ArithmeticException", "java/lang/Object"), ("java/util/ArrayList", "java/util/List"), ("java/util/ArrayList", "java/lang/Object"), ("java/lang/Throwable", "java/lang/Object"), ("java/lang/RuntimeException", "java/lang/Throwable"), ("java/lang/ArrayIndexOutOfBoundsException", "java/lang/ArrayIndexOutOfBoundsException"), ("java/lang/ArrayIndexOutOfBoundsException", "java/lang/Object"), ("java/lang/String", "java/lang/Object"), ("java/lang/NegativeArraySizeException", "java/lang/NegativeArraySizeException"), ("java/lang/NegativeArraySizeException", "java/lang/Object"), ("RoundingAuditor", "java/lang/Object"), ("RoundingAuditor$FromFirst", "java/lang/Object"), ("RoundingAuditor$FromLast", "java/lang/Object"), ("RoundingAuditor$Rising", "java/lang/Object"), ("RoundingAuditor$Falling", "java/lang/Object"), ("RoundingAuditor$ByAccount", "java/lang/Object"), ("RoundingAuditor$ByDay", "java/lang/Object"), ("RoundingAuditor$Given", "java/lang/Object"), ("RoundingAuditor$Inside", "java/lang/Object"), ("RoundingAuditor$Exact", "java/lang/Object"), ("RoundingAuditor$Halves", "java/lang/Object"), ("RoundingAuditor$Blocks", "java/lang/Object"), ("RoundingAuditor$Queue", "java/lang/Object"), ("RoundingAuditor$Carried", "java/lang/Object"), ("RoundingAuditor$CarriedApart", "java/lang/Object"), ("RoundingAuditor$Orders", "java/lang/Object"), ("RoundingAuditorModel", "java/lang/Object"), ("RoundingAuditor$Ledger", "java/lang/Object"), ("RoundingAuditor$Wide", "RoundingAuditor$Adder"), ("RoundingAuditor$Wide", "java/lang/Object"), ("RoundingAuditor$Wide", "RoundingAuditor$Ledger"), ("RoundingAuditor$Narrow", "RoundingAuditor$Adder"), ("RoundingAuditor$Narrow", "java/lang/Object"), ("RoundingAuditor$Narrow", "RoundingAuditor$Ledger"), ("RoundingAuditor$Far", "RoundingAuditor$Far"), ("RoundingAuditor$Far", "java/lang/Object"), ("RoundingAuditor$Tape", "java/lang/Object"), ("[B", "java/lang/Object"), ("[D", "java/lang/Object"), ("[F", "java/lang/Object"), ("[I", "java/lang/Object"), ("[J", "java/lang/Object"), ("[LRoundingAuditor$Exact;", "java/lang/Object"), ("[LRoundingAuditor$Ledger;", "java/lang/Object"), ("[Ljava/lang/Object;", "java/lang/Object"), ("[Z", "java/lang/Object")]
def xNI : List (String × MethodName × MethodName) := [("RoundingAuditor$Wide", ⟨"RoundingAuditor$Adder", "add", "(DD)D"⟩, ⟨"RoundingAuditor$Wide", "add", "(DD)D"⟩), ("RoundingAuditor$Narrow", ⟨"RoundingAuditor$Adder", "add", "(DD)D"⟩, ⟨"RoundingAuditor$Narrow", "add", "(DD)D"⟩), ("RoundingAuditor$Wide", ⟨"RoundingAuditor$Adder", "less", "(DD)D"⟩, ⟨"RoundingAuditor$Adder", "less", "(DD)D"⟩), ("RoundingAuditor$Narrow", ⟨"RoundingAuditor$Adder", "less", "(DD)D"⟩, ⟨"RoundingAuditor$Adder", "less", "(DD)D"⟩), ("java/util/ArrayList", ⟨"java/util/List", "size", "()I"⟩, ⟨"java/util/ArrayList", "size", "()I"⟩), ("java/util/ArrayList", ⟨"java/util/List", "get", "(I)Ljava/lang/Object;"⟩, ⟨"java/util/ArrayList", "get", "(I)Ljava/lang/Object;"⟩), ("java/util/ArrayList", ⟨"java/util/List", "clear", "()V"⟩, ⟨"java/util/ArrayList", "clear", "()V"⟩), ("java/util/ArrayList", ⟨"java/util/List", "add", "(Ljava/lang/Object;)Z"⟩, ⟨"java/util/ArrayList", "add", "(Ljava/lang/Object;)Z"⟩)]
def xNN : List (String × String) := [("java/lang/ArrayIndexOutOfBoundsException", "java/lang/NullPointerException"), ("java/lang/ArithmeticException", "java/lang/NullPointerException"), ("java/lang/ArithmeticException", "java/lang/ArrayIndexOutOfBoundsException"), ("java/lang/NegativeArraySizeException", "java/lang/ArrayIndexOutOfBoundsException")]
def xLess : MethodName := ⟨"RoundingAuditor$Adder", "less", "(DD)D"⟩
/-- the words of the tables that no list of words carries -/
def XN (s : State) : Prop := (∀ q ∈ xNF, va_Nw (.fieldLinkNest q.1 q.2.1 q.2.2.1 q.2.2.2.1 q.2.2.2.2.1 q.2.2.2.2.2) s) ∧ (∀ q ∈ xNM, va_Nw (.methodLinkNest q.1 q.2.1 q.2.2.1 q.2.2.2) s) ∧ (∀ x ∈ xND, va_Nw (.declares x) s) ∧ (∀ q ∈ xNC, va_Nw (.castable q.1 q.2) s) ∧ (∀ q ∈ xNI, va_Fw q.1 q.2.1 q.2.2 s) ∧ (∀ q ∈ xNN, va_Nc q.1 q.2 s) ∧ (va_AO "RoundingAuditor$Ledger" s ∧ va_AO "RoundingAuditor$Exact" s ∧ va_AO "java/lang/Object" s) ∧ ((∃ mi : Nat, va_Mi "[Ljava/lang/Object;" mi s) ∧ va_Dc s) ∧ va_Nw (.landsInDefault "RoundingAuditor$Wide" xLess xLess) s ∧ va_Nw (.landsInDefault "RoundingAuditor$Narrow" xLess xLess) s ∧ ∀ w ∈ defaultWords_1, w.before #[] s = true
theorem xNI_ok : ∀ q ∈ xNI, q.2.1.cls ≠ "java/lang/invoke/MethodHandle" ∧ q.2.1.cls ≠ "java/lang/invoke/VarHandle" := by decide +kernel
theorem xLess_to {C : String} {s U : State} (h : s.vm.Alike U.vm) (hZ : va_Nw (.landsInDefault C xLess xLess) s) : va_Nw (.landsInDefault C xLess xLess) U := by
  have e := Cond.landsInDefault_setVm (args := #[]) (args' := #[]) (s := s) (vm' := U.vm) h (cls := C) (x := xLess) (y := xLess) (State.methodFound?_setVm h _ _ _)
  have h2 : (Cond.landsInDefault C xLess xLess).before #[] (s.setVm U.vm) = true := by rw [e]; exact hZ
  exact h2
theorem xdw_ok : defaultWords_1.all goodWord = true := by decide +kernel
theorem XN.to {s U : State} (hW : s.WarmedH U.vm) (h : XN s) : XN U := by
  obtain ⟨h1, h2, h3, h4, h5, h6, ⟨h7, h8, h9⟩, ⟨⟨mi, h10⟩, h11⟩, h12, h13, h14⟩ := h
  exact ⟨fun q hq => (h1 q hq).warmF hW, fun q hq => (h2 q hq).warmM hW, fun q hq => (h3 q hq).warmD hW, fun q hq => (h4 q hq).warmC hW, fun q hq => va_Fw.moved (xNI_ok q hq) hW.alike (h5 q hq), fun q hq => (h6 q hq).moved hW.alike, ⟨h7.moved hW.alike, h8.moved hW.alike, h9.moved hW.alike⟩, ⟨⟨mi, h10.moved hW.alike⟩, h11.moved hW.alike⟩, xLess_to hW.alike h12, xLess_to hW.alike h13, fun w hw => word_at hW (good_of_word (List.all_eq_true.mp xdw_ok w hw)) (h14 w hw)⟩
/-- TENS -/
def xTens (j : Nat) : Int64 := if j = 0 then 1 else if j = 1 then 10 else if j = 2 then 100 else if j = 3 then 1000 else if j = 4 then 10000 else if j = 5 then 100000 else 1000000
/-- the statics, apart from what may be written -/
def XZ (ta : Nat → ClassId) (A : Nat → Prop) (U : State) (H : Heap) : Prop := (∃ t : Nat, va_Z "RoundingAuditor" "TENS" "[J" (.ref t) A U H ∧ va_T .long t 7 (fun j => .long (xTens j)) A U H) ∧ va_Z "java/lang/Math" "negativeZeroDoubleBits" "J" (.long (-9223372036854775808)) A U H ∧ va_Z "java/lang/Math" "negativeZeroFloatBits" "J" (.long (-2147483648)) A U H ∧ va_Z "java/lang/StrictMath" "$assertionsDisabled" "Z" (.int 1) A U H ∧ (va_Z "java/util/ArrayList" "DEFAULTCAPACITY_EMPTY_ELEMENTDATA" "[Ljava/lang/Object;" (.ref (ta 20)) A U H ∧ va_T (.object "java/lang/Object") (ta 20) 0 (fun _ => .null) A U H ∧ va_O "[Ljava/lang/Object;" (ta 20) A U H ∧ va_Mi "[Ljava/lang/Object;" (ta 21) U) ∧ vx_Zq Bundle.tN "UNASSIGNED_STACK" Bundle.steD A U H ∧ vx_Zq Bundle.tN "SUPPRESSED_SENTINEL" Bundle.listD A U H
theorem XZ.to {ta : Nat → ClassId} {A B : Nat → Prop} {s U : State} {H : Heap} (hW : s.vm.Alike U.vm) (hq : ∀ a : Nat, a < s.heap.size → ¬ A a → H[a]? = s.heap[a]?) (hB : ∀ q, B q → A q) (h : XZ ta A s s.heap) : XZ ta B U H := by
  obtain ⟨⟨t, h1, h2⟩, h3, h4, h5, ⟨h6, h7, h8, h8m⟩, h9, h10⟩ := h
  exact ⟨⟨t, ((h1.moved hW).kept hq).narrow hB, ((h2.moved hW).kept hq).narrow hB⟩, ((h3.moved hW).kept hq).narrow hB, ((h4.moved hW).kept hq).narrow hB, ((h5.moved hW).kept hq).narrow hB, ⟨((h6.moved hW).kept hq).narrow hB, ((h7.moved hW).kept hq).narrow hB, ((h8.moved hW).kept hq).narrow hB, h8m.moved hW⟩, ((h9.moved hW).kept hq).narrow hB, ((h10.moved hW).kept hq).narrow hB⟩
/-- what every method's start knows of the world behind it -/
def XE (D : va_G) (ta : Nat → ClassId) (A : Nat → Prop) (U : State) : Prop := va_K D xCl (xTy ta) U ∧ XN U ∧ XZ ta A U U.heap
theorem XE.to {D : va_G} {ta : Nat → ClassId} {A B : Nat → Prop} {s U : State} (hW : s.WarmedH U.vm) (hq : ∀ a : Nat, a < s.heap.size → ¬ A a → U.heap[a]? = s.heap[a]?) (hB : ∀ q, B q → A q) (h : XE D ta A s) : XE D ta B U := ⟨va_K.moved hW.alike h.1, XN.to hW h.2.1, h.2.2.to hW.alike hq hB⟩
theorem XE.blind {D : va_G} {ta : Nat → ClassId} {A : Nat → Prop} {U : State} {f : JFrame} {mk : MethodId} {a : Array Value} (h : XE D ta A U) : XE D ta A (U.calling f mk a) := h.to (s := U) (U := U.calling f mk a) (State.WarmedH.refl U) (fun _ _ _ => rfl) (fun _ h => h)
def XW (g : XG) (H : Heap) (locs : List Loc) (k n : Nat) (f : JFrame) : Prop := W (xp g) (xl g) (xe g) (xr g) (xs g) (xm g) (xa g) (xb g) (xh g) (xc g) H locs k n (xq g) f
/-- the frame at pc, with these locals, this stack, and a heap that holds the cells ws: it comes to its end -/
def X (g : XG) (nL pc : Nat) (lv : List (Nat × Value)) (st : List Value) (ws : va_W) (k n : Nat) : Prop := va_D (xA g) ws → ∀ (H : Heap) (locs : List Loc) (ls : Array Slot), lv_has ls nL lv → va_P (xD g) xCl ws H → va_S (xA g) (xs g).heap H locs → XW g H locs k n (F0 (xm g) pc ls st)
/-- the frame's own facts: its code, its class, its room, its world behind -/
def XO (g : XG) (own : String) (cc : ByteArray) (nL d mc ms : Nat) : Prop := (xp g).tables.exec = Jvm.exec ∧ (xc g).code = cc ∧ (xc g).maxLocals = nL ∧ (xs g).vm.findClass own = some (xm g).cls ∧ (∀ w ∈ lw_all, w.before (xa g) (xs g) = true) ∧ xr g = xR d mc ms ∧ (xh g).locks = false ∧ XE (xD g) (xT g) (xA g) (xs g) ∧ (∀ q, (xs g).heap.size ≤ q → xA g q) ∧ (xl g).stackTraces = false
section
variable {g : XG} {own : String} {cc : ByteArray} {nL d mc ms pc : Nat} {lv lv' : List (Nat × Value)} {st : List Value} {ws ws' : va_W} {k n : Nat}
theorem XO.exec (G : XO g own cc nL d mc ms) : (xp g).tables.exec = Jvm.exec := G.1
theorem XO.code (G : XO g own cc nL d mc ms) : (xc g).code = cc := G.2.1
theorem XO.maxL (G : XO g own cc nL d mc ms) : (xc g).maxLocals = nL := G.2.2.1
theorem XO.cls (G : XO g own cc nL d mc ms) : (xs g).vm.findClass own = some (xm g).cls := G.2.2.2.1
theorem XO.hts (G : XO g own cc nL d mc ms) : ∀ w ∈ lw_all, w.before (xa g) (xs g) = true := G.2.2.2.2.1
theorem XO.room (G : XO g own cc nL d mc ms) : xr g = xR d mc ms := G.2.2.2.2.2.1
theorem XO.locks (G : XO g own cc nL d mc ms) : (xh g).locks = false := G.2.2.2.2.2.2.1
theorem XO.E (G : XO g own cc nL d mc ms) : XE (xD g) (xT g) (xA g) (xs g) := G.2.2.2.2.2.2.2.1
theorem XO.K (G : XO g own cc nL d mc ms) : va_K (xD g) xCl (xTy (xT g)) (xs g) := G.E.1
theorem XO.A (G : XO g own cc nL d mc ms) : ∀ q, (xs g).heap.size ≤ q → xA g q := G.2.2.2.2.2.2.2.2.1
theorem XO.noTraces (G : XO g own cc nL d mc ms) : (xl g).stackTraces = false := G.2.2.2.2.2.2.2.2.2
/-- fewer locals, in another order -/
theorem x_lv (ks : List Nat) (hl : lv_pick lv ks = lv') (kk : X g nL pc lv' st ws k n) : X g nL pc lv st ws k n := fun hD H locs ls hl0 hP hS => kk hD H locs ls (lv_sub hl0 ks hl) hP hS
/-- fewer cells, in another order -/
def XSub (ws ws' : va_W) : Prop := (∀ q ∈ ws', q ∈ ws) ∧ ∀ A, va_D A ws → va_D A ws'
theorem va_P.mem {D : va_G} {cl : List vw_C} {ws : va_W} {H : Heap} (h : va_P D cl ws H) {q : Nat × va_E} (hq : q ∈ ws) : va_at D cl q H := by
  obtain ⟨i, hi⟩ := List.getElem?_of_mem hq
  exact h i q hi
theorem va_P.ofMem {D : va_G} {cl : List vw_C} {ws : va_W} {H : Heap} (h : ∀ q ∈ ws, va_at D cl q H) : va_P D cl ws H := fun _ q hk => h q (List.mem_of_getElem? hk)
theorem XSub.P {D : va_G} {cl : List vw_C} {H : Heap} (h : XSub ws ws') (hP : va_P D cl ws H) : va_P D cl ws' H := va_P.ofMem fun q hq => hP.mem (h.1 q hq)
theorem XSub.rf : XSub ws ws := ⟨fun _ h => h, fun _ h => h⟩
theorem XSub.of (is : List Nat) (hs : is.map (fun i => ws[i]?) = ws'.map some) (hn : va_nd is = true) : XSub ws ws' := by
  refine ⟨fun q hq => ?_, fun A hD => hD.sub is hn hs⟩
  obtain ⟨j, hj⟩ := List.getElem?_of_mem hq
  have h1 : (is.map (fun i => ws[i]?))[j]? = some (some q) := by rw [hs, List.getElem?_map, hj]; rfl
  rw [List.getElem?_map] at h1
  cases hi : is[j]? with
  | none => rw [hi] at h1; cases h1
  | some i => rw [hi] at h1; exact List.mem_of_getElem? (Option.some.inj h1)
theorem XSub.trans {w1 w2 w3 : va_W} (h : XSub w1 w2) (h' : XSub w2 w3) : XSub w1 w3 := ⟨fun q hq => h.1 q (h'.1 q hq), fun A hD => h'.2 A (h.2 A hD)⟩
theorem va_D.iff {A : Nat → Prop} {ws : va_W} : va_D A ws ↔ (ws.map Prod.fst).Nodup ∧ ∀ q ∈ ws, A q.1 := by
  constructor
  · intro h
    refine ⟨?_, fun q hq => ?_⟩
    · rw [List.nodup_iff_pairwise_ne, List.pairwise_iff_getElem]
      intro i j hi hj hij hne
      rw [List.length_map] at hi hj
      rw [List.getElem_map, List.getElem_map] at hne
      have := h.1 i j _ _ (List.getElem?_eq_getElem hi) (List.getElem?_eq_getElem hj) hne
      omega
    · obtain ⟨i, hi⟩ := List.getElem?_of_mem hq
      exact h.2 i q hi
  · intro ⟨h1, h2⟩
    refine ⟨fun i j p q hi hj hpq => ?_, fun k q hk => h2 q (List.mem_of_getElem? hk)⟩
    rw [List.nodup_iff_pairwise_ne, List.pairwise_iff_getElem] at h1
    obtain ⟨hi', rfl⟩ := List.getElem?_eq_some_iff.mp hi
    obtain ⟨hj', rfl⟩ := List.getElem?_eq_some_iff.mp hj
    rcases Nat.lt_trichotomy i j with c | c | c
    · exact absurd (by rw [List.getElem_map, List.getElem_map]; exact hpq) (h1 i j (by rw [List.length_map]; exact hi') (by rw [List.length_map]; exact hj') c)
    · exact c
    · exact absurd (by rw [List.getElem_map, List.getElem_map]; exact hpq.symm) (h1 j i (by rw [List.length_map]; exact hj') (by rw [List.length_map]; exact hi') c)
theorem XSub.perm (h : ws.Perm ws') : XSub ws ws' := ⟨fun _ hq => h.mem_iff.mpr hq, fun A hD => by
  rw [va_D.iff] at hD ⊢
  exact ⟨(h.map Prod.fst).nodup_iff.mp hD.1, fun q hq => hD.2 q (h.mem_iff.mpr hq)⟩⟩
theorem XSub.left {w1 w2 : va_W} : XSub (w1 ++ w2) w1 := ⟨fun _ h => List.mem_append_left _ h, fun A hD => by
  rw [va_D.iff] at hD ⊢
  rw [List.map_append] at hD
  exact ⟨(List.nodup_append.mp hD.1).1, fun q hq => hD.2 q (List.mem_append_left _ hq)⟩⟩
theorem x_ws (h : XSub ws ws') (kk : X g nL pc lv st ws' k n) : X g nL pc lv st ws k n := fun hD H locs ls hl hP hS => kk (h.2 _ hD) H locs ls hl (h.P hP) hS
theorem x_mono {k' n' : Nat} (h1 : k ≤ k') (h2 : n ≤ n') (kk : X g nL pc lv st ws k' n') : X g nL pc lv st ws k n := fun hD H locs ls hl hP hS => W.widen h1 h2 (kk hD H locs ls hl hP hS)
theorem x_topi {x : Int32} (kk : ∀ y : Int32, y = x → X g nL pc lv (.int y :: st) ws k n) : X g nL pc lv (.int x :: st) ws k n := kk x rfl
theorem x_topl {x : Int64} (kk : ∀ y : Int64, y = x → X g nL pc lv (.long y :: st) ws k n) : X g nL pc lv (.long x :: st) ws k n := kk x rfl
theorem x_topf {x : UInt32} (kk : ∀ y : UInt32, y = x → X g nL pc lv (.float y :: st) ws k n) : X g nL pc lv (.float x :: st) ws k n := kk x rfl
theorem x_topd {x : UInt64} (kk : ∀ y : UInt64, y = x → X g nL pc lv (.double y :: st) ws k n) : X g nL pc lv (.double x :: st) ws k n := kk x rfl
theorem x_iconst (G : XO g own cc nL d mc ms) {i : Int} {v : Int32} (dg : decode cc pc = .ok (.iconst i, 1)) (hv : Int32.ofInt i = v) (kk : X g nL (pc + 1) lv (.int v :: st) ws k n) : X g nL pc lv st ws k n := fun hD H locs ls hl hP hS => lv_iconst G.exec G.code dg hv (kk hD H locs ls hl hP hS)
theorem x_bipush (G : XO g own cc nL d mc ms) {i : Int} {v : Int32} (dg : decode cc pc = .ok (.bipush i, 2)) (hv : (Int8.ofInt i).toInt32 = v) (kk : X g nL (pc + 2) lv (.int v :: st) ws k n) : X g nL pc lv st ws k n := fun hD H locs ls hl hP hS => lv_bipush G.exec G.code dg hv (kk hD H locs ls hl hP hS)
theorem x_sipush (G : XO g own cc nL d mc ms) {i : Int} {v : Int32} (dg : decode cc pc = .ok (.sipush i, 3)) (hv : (Int16.ofInt i).toInt32 = v) (kk : X g nL (pc + 3) lv (.int v :: st) ws k n) : X g nL pc lv st ws k n := fun hD H locs ls hl hP hS => lv_sipush G.exec G.code dg hv (kk hD H locs ls hl hP hS)
theorem x_lconst (G : XO g own cc nL d mc ms) {i : Fin 2} {v : Int64} (dg : decode cc pc = .ok (.lconst i, 1)) (hv : Int64.ofNat (i : Nat) = v) (kk : X g nL (pc + 1) lv (.long v :: st) ws k n) : X g nL pc lv st ws k n := fun hD H locs ls hl hP hS => lv_lconst G.exec G.code dg hv (kk hD H locs ls hl hP hS)
theorem x_fconst0 (G : XO g own cc nL d mc ms) (dg : decode cc pc = .ok (.fconst 0, 1)) (kk : X g nL (pc + 1) lv (.float FP.fconst0 :: st) ws k n) : X g nL pc lv st ws k n := fun hD H locs ls hl hP hS => lv_fconst0 G.exec G.code dg (kk hD H locs ls hl hP hS)
theorem x_fconst1 (G : XO g own cc nL d mc ms) (dg : decode cc pc = .ok (.fconst 1, 1)) (kk : X g nL (pc + 1) lv (.float FP.fconst1 :: st) ws k n) : X g nL pc lv st ws k n := fun hD H locs ls hl hP hS => lv_fconst1 G.exec G.code dg (kk hD H locs ls hl hP hS)
theorem x_dconst0 (G : XO g own cc nL d mc ms) (dg : decode cc pc = .ok (.dconst 0, 1)) (kk : X g nL (pc + 1) lv (.double FP.dconst0 :: st) ws k n) : X g nL pc lv st ws k n := fun hD H locs ls hl hP hS => lv_dconst0 G.exec G.code dg (kk hD H locs ls hl hP hS)
theorem x_dconst1 (G : XO g own cc nL d mc ms) (dg : decode cc pc = .ok (.dconst 1, 1)) (kk : X g nL (pc + 1) lv (.double FP.dconst1 :: st) ws k n) : X g nL pc lv st ws k n := fun hD H locs ls hl hP hS => lv_dconst1 G.exec G.code dg (kk hD H locs ls hl hP hS)
theorem x_null (G : XO g own cc nL d mc ms) (dg : decode cc pc = .ok (.aconst_null, 1)) (kk : X g nL (pc + 1) lv (.null :: st) ws k n) : X g nL pc lv st ws k n := fun hD H locs ls hl hP hS => lv_null G.exec G.code dg (kk hD H locs ls hl hP hS)
theorem x_iload_n (G : XO g own cc nL d mc ms) {i0 : Fin 4} {i : Nat} {v : Int32} (hi : (i0 : Nat) = i) (dg : decode cc pc = .ok (.iload_n i0, 1)) (j : Nat) (hj : lv[j]? = some (i, .int v)) (kk : X g nL (pc + 1) lv (.int v :: st) ws k n) : X g nL pc lv st ws k n := fun hD H locs ls hl hP hS => lv_iload_n G.exec G.code dg hi (lv_at hl j hj) (kk hD H locs ls hl hP hS)
theorem x_iload (G : XO g own cc nL d mc ms) {i : Nat} {v : Int32} (dg : decode cc pc = .ok (.iload i, 2)) (j : Nat) (hj : lv[j]? = some (i, .int v)) (kk : X g nL (pc + 2) lv (.int v :: st) ws k n) : X g nL pc lv st ws k n := fun hD H locs ls hl hP hS => lv_iload G.exec G.code dg (lv_at hl j hj) (kk hD H locs ls hl hP hS)
theorem x_istore_n (G : XO g own cc nL d mc ms) {i0 : Fin 4} {i : Nat} {v : Int32} (hi : (i0 : Nat) = i) (dg : decode cc pc = .ok (.istore_n i0, 1)) (hn : i < nL) (hw : (i, Value.int v) :: lv.filter (fun q => !(q.1 == i) && !(q.1 + 1 == i && q.2.category == 2)) = lv') (kk : X g nL (pc + 1) lv' st ws k n) : X g nL pc lv (.int v :: st) ws k n := fun hD H locs ls hl hP hS => lv_istore_n G.exec G.code dg hi hl hn hw (fun ls hl => kk hD H locs ls hl hP hS)
theorem x_istore (G : XO g own cc nL d mc ms) {i : Nat} {v : Int32} (dg : decode cc pc = .ok (.istore i, 2)) (hn : i < nL) (hw : (i, Value.int v) :: lv.filter (fun q => !(q.1 == i) && !(q.1 + 1 == i && q.2.category == 2)) = lv') (kk : X g nL (pc + 2) lv' st ws k n) : X g nL pc lv (.int v :: st) ws k n := fun hD H locs ls hl hP hS => lv_istore G.exec G.code dg hl hn hw (fun ls hl => kk hD H locs ls hl hP hS)
theorem x_lload_n (G : XO g own cc nL d mc ms) {i0 : Fin 4} {i : Nat} {v : Int64} (hi : (i0 : Nat) = i) (dg : decode cc pc = .ok (.lload_n i0, 1)) (j : Nat) (hj : lv[j]? = some (i, .long v)) (kk : X g nL (pc + 1) lv (.long v :: st) ws k n) : X g nL pc lv st ws k n := fun hD H locs ls hl hP hS => lv_lload_n G.exec G.code dg hi (lv_at hl j hj) (kk hD H locs ls hl hP hS)
theorem x_lload (G : XO g own cc nL d mc ms) {i : Nat} {v : Int64} (dg : decode cc pc = .ok (.lload i, 2)) (j : Nat) (hj : lv[j]? = some (i, .long v)) (kk : X g nL (pc + 2) lv (.long v :: st) ws k n) : X g nL pc lv st ws k n := fun hD H locs ls hl hP hS => lv_lload G.exec G.code dg (lv_at hl j hj) (kk hD H locs ls hl hP hS)
theorem x_lstore_n (G : XO g own cc nL d mc ms) {i0 : Fin 4} {i : Nat} {v : Int64} (hi : (i0 : Nat) = i) (dg : decode cc pc = .ok (.lstore_n i0, 1)) (hn : i + 1 < nL) (hw : (i, Value.long v) :: lv.filter (fun q => !(q.1 == i) && (!(q.1 == i + 1) && !(q.1 + 1 == i && q.2.category == 2))) = lv') (kk : X g nL (pc + 1) lv' st ws k n) : X g nL pc lv (.long v :: st) ws k n := fun hD H locs ls hl hP hS => lv_lstore_n G.exec G.code dg hi hl hn hw (fun ls hl => kk hD H locs ls hl hP hS)
theorem x_lstore (G : XO g own cc nL d mc ms) {i : Nat} {v : Int64} (dg : decode cc pc = .ok (.lstore i, 2)) (hn : i + 1 < nL) (hw : (i, Value.long v) :: lv.filter (fun q => !(q.1 == i) && (!(q.1 == i + 1) && !(q.1 + 1 == i && q.2.category == 2))) = lv') (kk : X g nL (pc + 2) lv' st ws k n) : X g nL pc lv (.long v :: st) ws k n := fun hD H locs ls hl hP hS => lv_lstore G.exec G.code dg hl hn hw (fun ls hl => kk hD H locs ls hl hP hS)
theorem x_fload_n (G : XO g own cc nL d mc ms) {i0 : Fin 4} {i : Nat} {v : UInt32} (hi : (i0 : Nat) = i) (dg : decode cc pc = .ok (.fload_n i0, 1)) (j : Nat) (hj : lv[j]? = some (i, .float v)) (kk : X g nL (pc + 1) lv (.float v :: st) ws k n) : X g nL pc lv st ws k n := fun hD H locs ls hl hP hS => lv_fload_n G.exec G.code dg hi (lv_at hl j hj) (kk hD H locs ls hl hP hS)
theorem x_fload (G : XO g own cc nL d mc ms) {i : Nat} {v : UInt32} (dg : decode cc pc = .ok (.fload i, 2)) (j : Nat) (hj : lv[j]? = some (i, .float v)) (kk : X g nL (pc + 2) lv (.float v :: st) ws k n) : X g nL pc lv st ws k n := fun hD H locs ls hl hP hS => lv_fload G.exec G.code dg (lv_at hl j hj) (kk hD H locs ls hl hP hS)
theorem x_fstore_n (G : XO g own cc nL d mc ms) {i0 : Fin 4} {i : Nat} {v : UInt32} (hi : (i0 : Nat) = i) (dg : decode cc pc = .ok (.fstore_n i0, 1)) (hn : i < nL) (hw : (i, Value.float v) :: lv.filter (fun q => !(q.1 == i) && !(q.1 + 1 == i && q.2.category == 2)) = lv') (kk : X g nL (pc + 1) lv' st ws k n) : X g nL pc lv (.float v :: st) ws k n := fun hD H locs ls hl hP hS => lv_fstore_n G.exec G.code dg hi hl hn hw (fun ls hl => kk hD H locs ls hl hP hS)
theorem x_fstore (G : XO g own cc nL d mc ms) {i : Nat} {v : UInt32} (dg : decode cc pc = .ok (.fstore i, 2)) (hn : i < nL) (hw : (i, Value.float v) :: lv.filter (fun q => !(q.1 == i) && !(q.1 + 1 == i && q.2.category == 2)) = lv') (kk : X g nL (pc + 2) lv' st ws k n) : X g nL pc lv (.float v :: st) ws k n := fun hD H locs ls hl hP hS => lv_fstore G.exec G.code dg hl hn hw (fun ls hl => kk hD H locs ls hl hP hS)
theorem x_dload_n (G : XO g own cc nL d mc ms) {i0 : Fin 4} {i : Nat} {v : UInt64} (hi : (i0 : Nat) = i) (dg : decode cc pc = .ok (.dload_n i0, 1)) (j : Nat) (hj : lv[j]? = some (i, .double v)) (kk : X g nL (pc + 1) lv (.double v :: st) ws k n) : X g nL pc lv st ws k n := fun hD H locs ls hl hP hS => lv_dload_n G.exec G.code dg hi (lv_at hl j hj) (kk hD H locs ls hl hP hS)
theorem x_dload (G : XO g own cc nL d mc ms) {i : Nat} {v : UInt64} (dg : decode cc pc = .ok (.dload i, 2)) (j : Nat) (hj : lv[j]? = some (i, .double v)) (kk : X g nL (pc + 2) lv (.double v :: st) ws k n) : X g nL pc lv st ws k n := fun hD H locs ls hl hP hS => lv_dload G.exec G.code dg (lv_at hl j hj) (kk hD H locs ls hl hP hS)
theorem x_dstore_n (G : XO g own cc nL d mc ms) {i0 : Fin 4} {i : Nat} {v : UInt64} (hi : (i0 : Nat) = i) (dg : decode cc pc = .ok (.dstore_n i0, 1)) (hn : i + 1 < nL) (hw : (i, Value.double v) :: lv.filter (fun q => !(q.1 == i) && (!(q.1 == i + 1) && !(q.1 + 1 == i && q.2.category == 2))) = lv') (kk : X g nL (pc + 1) lv' st ws k n) : X g nL pc lv (.double v :: st) ws k n := fun hD H locs ls hl hP hS => lv_dstore_n G.exec G.code dg hi hl hn hw (fun ls hl => kk hD H locs ls hl hP hS)
theorem x_dstore (G : XO g own cc nL d mc ms) {i : Nat} {v : UInt64} (dg : decode cc pc = .ok (.dstore i, 2)) (hn : i + 1 < nL) (hw : (i, Value.double v) :: lv.filter (fun q => !(q.1 == i) && (!(q.1 == i + 1) && !(q.1 + 1 == i && q.2.category == 2))) = lv') (kk : X g nL (pc + 2) lv' st ws k n) : X g nL pc lv (.double v :: st) ws k n := fun hD H locs ls hl hP hS => lv_dstore G.exec G.code dg hl hn hw (fun ls hl => kk hD H locs ls hl hP hS)
theorem x_aload_n (G : XO g own cc nL d mc ms) {i0 : Fin 4} {i : Nat} {v : Nat} (hi : (i0 : Nat) = i) (dg : decode cc pc = .ok (.aload_n i0, 1)) (j : Nat) (hj : lv[j]? = some (i, .ref v)) (kk : X g nL (pc + 1) lv (.ref v :: st) ws k n) : X g nL pc lv st ws k n := fun hD H locs ls hl hP hS => lv_aload_n G.exec G.code dg hi (lv_at hl j hj) (kk hD H locs ls hl hP hS)
theorem x_aload (G : XO g own cc nL d mc ms) {i : Nat} {v : Nat} (dg : decode cc pc = .ok (.aload i, 2)) (j : Nat) (hj : lv[j]? = some (i, .ref v)) (kk : X g nL (pc + 2) lv (.ref v :: st) ws k n) : X g nL pc lv st ws k n := fun hD H locs ls hl hP hS => lv_aload G.exec G.code dg (lv_at hl j hj) (kk hD H locs ls hl hP hS)
theorem x_astore_n (G : XO g own cc nL d mc ms) {i0 : Fin 4} {i : Nat} {v : Nat} (hi : (i0 : Nat) = i) (dg : decode cc pc = .ok (.astore_n i0, 1)) (hn : i < nL) (hw : (i, Value.ref v) :: lv.filter (fun q => !(q.1 == i) && !(q.1 + 1 == i && q.2.category == 2)) = lv') (kk : X g nL (pc + 1) lv' st ws k n) : X g nL pc lv (.ref v :: st) ws k n := fun hD H locs ls hl hP hS => lv_astore_n G.exec G.code dg hi hl hn hw (fun ls hl => kk hD H locs ls hl hP hS)
theorem x_astore (G : XO g own cc nL d mc ms) {i : Nat} {v : Nat} (dg : decode cc pc = .ok (.astore i, 2)) (hn : i < nL) (hw : (i, Value.ref v) :: lv.filter (fun q => !(q.1 == i) && !(q.1 + 1 == i && q.2.category == 2)) = lv') (kk : X g nL (pc + 2) lv' st ws k n) : X g nL pc lv (.ref v :: st) ws k n := fun hD H locs ls hl hP hS => lv_astore G.exec G.code dg hl hn hw (fun ls hl => kk hD H locs ls hl hP hS)
theorem x_aload_nN (G : XO g own cc nL d mc ms) {i0 : Fin 4} {i : Nat} (hi : (i0 : Nat) = i) (dg : decode cc pc = .ok (.aload_n i0, 1)) (j : Nat) (hj : lv[j]? = some (i, .null)) (kk : X g nL (pc + 1) lv (.null :: st) ws k n) : X g nL pc lv st ws k n := fun hD H locs ls hl hP hS => lv_aload_nN G.exec G.code dg hi (lv_at hl j hj) (kk hD H locs ls hl hP hS)
theorem x_astore_nN (G : XO g own cc nL d mc ms) {i0 : Fin 4} {i : Nat} (hi : (i0 : Nat) = i) (dg : decode cc pc = .ok (.astore_n i0, 1)) (hn : i < nL) (hw : (i, Value.null) :: lv.filter (fun q => !(q.1 == i) && !(q.1 + 1 == i && q.2.category == 2)) = lv') (kk : X g nL (pc + 1) lv' st ws k n) : X g nL pc lv (.null :: st) ws k n := fun hD H locs ls hl hP hS => lv_astore_nN G.exec G.code dg hi hl hn hw (fun ls hl => kk hD H locs ls hl hP hS)
theorem x_astoreN (G : XO g own cc nL d mc ms) {i : Nat} (dg : decode cc pc = .ok (.astore i, 2)) (hn : i < nL) (hw : (i, Value.null) :: lv.filter (fun q => !(q.1 == i) && !(q.1 + 1 == i && q.2.category == 2)) = lv') (kk : X g nL (pc + 2) lv' st ws k n) : X g nL pc lv (.null :: st) ws k n := fun hD H locs ls hl hP hS => lv_astoreN G.exec G.code dg hl hn hw (fun ls hl => kk hD H locs ls hl hP hS)
theorem x_iinc (G : XO g own cc nL d mc ms) {i : Nat} {a : Int} {x v : Int32} (dg : decode cc pc = .ok (.iinc i a, 3)) (j : Nat) (hj : lv[j]? = some (i, .int x)) (hv : x + Int32.ofInt a = v) (hn : i < nL) (hw : (i, Value.int v) :: lv.filter (fun q => !(q.1 == i) && !(q.1 + 1 == i && q.2.category == 2)) = lv') (kk : X g nL (pc + 3) lv' st ws k n) : X g nL pc lv st ws k n := fun hD H locs ls hl hP hS => lv_iinc G.exec G.code dg hl hj hv hn hw (fun ls hl => kk hD H locs ls hl hP hS)
def jishl (x y : Int32) : Int32 := x <<< (y &&& 31)
def jishr (x y : Int32) : Int32 := x >>> (y &&& 31)
def jiushr (x y : Int32) : Int32 := (x.toUInt32 >>> (y.toUInt32 &&& Int32.toUInt32 31)).toInt32
def jlushr (x : Int64) (y : Int32) : Int64 := (x.toUInt64 >>> (y.toInt64.toUInt64 &&& Int64.toUInt64 63)).toInt64
def jlshl (x : Int64) (y : Int32) : Int64 := x <<< (y.toInt64 &&& 63)
def jlshr (x : Int64) (y : Int32) : Int64 := x >>> (y.toInt64 &&& 63)
def jirem (x y : Int32) : Int32 := x - x / y * y
def jlrem (x y : Int64) : Int64 := x - x / y * y
theorem x_iadd (G : XO g own cc nL d mc ms) {x : Int32} {y : Int32} (dg : decode cc pc = .ok (.iadd, 1)) (kk : X g nL (pc + 1) lv (.int (x + y) :: st) ws k n) : X g nL pc lv (.int y :: .int x :: st) ws k n := fun hD H locs ls hl hP hS => lv_iadd G.exec G.code dg (kk hD H locs ls hl hP hS)
theorem x_isub (G : XO g own cc nL d mc ms) {x : Int32} {y : Int32} (dg : decode cc pc = .ok (.isub, 1)) (kk : X g nL (pc + 1) lv (.int (x - y) :: st) ws k n) : X g nL pc lv (.int y :: .int x :: st) ws k n := fun hD H locs ls hl hP hS => lv_isub G.exec G.code dg (kk hD H locs ls hl hP hS)
theorem x_imul (G : XO g own cc nL d mc ms) {x : Int32} {y : Int32} (dg : decode cc pc = .ok (.imul, 1)) (kk : X g nL (pc + 1) lv (.int (x * y) :: st) ws k n) : X g nL pc lv (.int y :: .int x :: st) ws k n := fun hD H locs ls hl hP hS => lv_imul G.exec G.code dg (kk hD H locs ls hl hP hS)
theorem x_iand (G : XO g own cc nL d mc ms) {x : Int32} {y : Int32} (dg : decode cc pc = .ok (.iand, 1)) (kk : X g nL (pc + 1) lv (.int (x &&& y) :: st) ws k n) : X g nL pc lv (.int y :: .int x :: st) ws k n := fun hD H locs ls hl hP hS => lv_iand G.exec G.code dg (kk hD H locs ls hl hP hS)
theorem x_ior (G : XO g own cc nL d mc ms) {x : Int32} {y : Int32} (dg : decode cc pc = .ok (.ior, 1)) (kk : X g nL (pc + 1) lv (.int (x ||| y) :: st) ws k n) : X g nL pc lv (.int y :: .int x :: st) ws k n := fun hD H locs ls hl hP hS => lv_ior G.exec G.code dg (kk hD H locs ls hl hP hS)
theorem x_ixor (G : XO g own cc nL d mc ms) {x : Int32} {y : Int32} (dg : decode cc pc = .ok (.ixor, 1)) (kk : X g nL (pc + 1) lv (.int (x ^^^ y) :: st) ws k n) : X g nL pc lv (.int y :: .int x :: st) ws k n := fun hD H locs ls hl hP hS => lv_ixor G.exec G.code dg (kk hD H locs ls hl hP hS)
theorem x_ishl (G : XO g own cc nL d mc ms) {x : Int32} {y : Int32} (dg : decode cc pc = .ok (.ishl, 1)) (kk : X g nL (pc + 1) lv (.int (jishl x y) :: st) ws k n) : X g nL pc lv (.int y :: .int x :: st) ws k n := fun hD H locs ls hl hP hS => lv_ishl G.exec G.code dg (kk hD H locs ls hl hP hS)
theorem x_ishr (G : XO g own cc nL d mc ms) {x : Int32} {y : Int32} (dg : decode cc pc = .ok (.ishr, 1)) (kk : X g nL (pc + 1) lv (.int (jishr x y) :: st) ws k n) : X g nL pc lv (.int y :: .int x :: st) ws k n := fun hD H locs ls hl hP hS => lv_ishr G.exec G.code dg (kk hD H locs ls hl hP hS)
theorem x_iushr (G : XO g own cc nL d mc ms) {x : Int32} {y : Int32} (dg : decode cc pc = .ok (.iushr, 1)) (kk : X g nL (pc + 1) lv (.int (jiushr x y) :: st) ws k n) : X g nL pc lv (.int y :: .int x :: st) ws k n := fun hD H locs ls hl hP hS => lv_iushr G.exec G.code dg rfl (kk hD H locs ls hl hP hS)
theorem x_idiv (G : XO g own cc nL d mc ms) {x : Int32} {y : Int32} (dg : decode cc pc = .ok (.idiv, 1)) (hne : ¬ y = 0) (kk : X g nL (pc + 1) lv (.int (x / y) :: st) ws k n) : X g nL pc lv (.int y :: .int x :: st) ws k n := fun hD H locs ls hl hP hS => lv_idiv G.exec G.code dg hne (kk hD H locs ls hl hP hS)
theorem x_irem (G : XO g own cc nL d mc ms) {x : Int32} {y : Int32} (dg : decode cc pc = .ok (.irem, 1)) (hne : ¬ y = 0) (kk : X g nL (pc + 1) lv (.int (jirem x y) :: st) ws k n) : X g nL pc lv (.int y :: .int x :: st) ws k n := fun hD H locs ls hl hP hS => lv_irem G.exec G.code dg hne (kk hD H locs ls hl hP hS)
theorem x_ladd (G : XO g own cc nL d mc ms) {x : Int64} {y : Int64} (dg : decode cc pc = .ok (.ladd, 1)) (kk : X g nL (pc + 1) lv (.long (x + y) :: st) ws k n) : X g nL pc lv (.long y :: .long x :: st) ws k n := fun hD H locs ls hl hP hS => lv_ladd G.exec G.code dg (kk hD H locs ls hl hP hS)
theorem x_lsub (G : XO g own cc nL d mc ms) {x : Int64} {y : Int64} (dg : decode cc pc = .ok (.lsub, 1)) (kk : X g nL (pc + 1) lv (.long (x - y) :: st) ws k n) : X g nL pc lv (.long y :: .long x :: st) ws k n := fun hD H locs ls hl hP hS => lv_lsub G.exec G.code dg (kk hD H locs ls hl hP hS)
theorem x_lmul (G : XO g own cc nL d mc ms) {x : Int64} {y : Int64} (dg : decode cc pc = .ok (.lmul, 1)) (kk : X g nL (pc + 1) lv (.long (x * y) :: st) ws k n) : X g nL pc lv (.long y :: .long x :: st) ws k n := fun hD H locs ls hl hP hS => lv_lmul G.exec G.code dg (kk hD H locs ls hl hP hS)
theorem x_land (G : XO g own cc nL d mc ms) {x : Int64} {y : Int64} (dg : decode cc pc = .ok (.land, 1)) (kk : X g nL (pc + 1) lv (.long (x &&& y) :: st) ws k n) : X g nL pc lv (.long y :: .long x :: st) ws k n := fun hD H locs ls hl hP hS => lv_land G.exec G.code dg (kk hD H locs ls hl hP hS)
theorem x_lor (G : XO g own cc nL d mc ms) {x : Int64} {y : Int64} (dg : decode cc pc = .ok (.lor, 1)) (kk : X g nL (pc + 1) lv (.long (x ||| y) :: st) ws k n) : X g nL pc lv (.long y :: .long x :: st) ws k n := fun hD H locs ls hl hP hS => lv_lor G.exec G.code dg (kk hD H locs ls hl hP hS)
theorem x_lxor (G : XO g own cc nL d mc ms) {x : Int64} {y : Int64} (dg : decode cc pc = .ok (.lxor, 1)) (kk : X g nL (pc + 1) lv (.long (x ^^^ y) :: st) ws k n) : X g nL pc lv (.long y :: .long x :: st) ws k n := fun hD H locs ls hl hP hS => lv_lxor G.exec G.code dg (kk hD H locs ls hl hP hS)
theorem x_ldiv (G : XO g own cc nL d mc ms) {x : Int64} {y : Int64} (dg : decode cc pc = .ok (.ldiv, 1)) (hne : ¬ y = 0) (kk : X g nL (pc + 1) lv (.long (x / y) :: st) ws k n) : X g nL pc lv (.long y :: .long x :: st) ws k n := fun hD H locs ls hl hP hS => lv_ldiv G.exec G.code dg hne (kk hD H locs ls hl hP hS)
theorem x_lrem (G : XO g own cc nL d mc ms) {x : Int64} {y : Int64} (dg : decode cc pc = .ok (.lrem, 1)) (hne : ¬ y = 0) (kk : X g nL (pc + 1) lv (.long (jlrem x y) :: st) ws k n) : X g nL pc lv (.long y :: .long x :: st) ws k n := fun hD H locs ls hl hP hS => lv_lrem G.exec G.code dg hne (kk hD H locs ls hl hP hS)
theorem x_lushr (G : XO g own cc nL d mc ms) {x : Int64} {y : Int32} (dg : decode cc pc = .ok (.lushr, 1)) (kk : X g nL (pc + 1) lv (.long (jlushr x y) :: st) ws k n) : X g nL pc lv (.int y :: .long x :: st) ws k n := fun hD H locs ls hl hP hS => lv_lushr G.exec G.code dg rfl (kk hD H locs ls hl hP hS)
theorem x_lshl (G : XO g own cc nL d mc ms) {x : Int64} {y : Int32} (dg : decode cc pc = .ok (.lshl, 1)) (kk : X g nL (pc + 1) lv (.long (jlshl x y) :: st) ws k n) : X g nL pc lv (.int y :: .long x :: st) ws k n := fun hD H locs ls hl hP hS => lv_lshl G.exec G.code dg rfl (kk hD H locs ls hl hP hS)
theorem x_lshr (G : XO g own cc nL d mc ms) {x : Int64} {y : Int32} (dg : decode cc pc = .ok (.lshr, 1)) (kk : X g nL (pc + 1) lv (.long (jlshr x y) :: st) ws k n) : X g nL pc lv (.int y :: .long x :: st) ws k n := fun hD H locs ls hl hP hS => lv_lshr G.exec G.code dg rfl (kk hD H locs ls hl hP hS)
theorem x_ineg (G : XO g own cc nL d mc ms) {x : Int32} (dg : decode cc pc = .ok (.ineg, 1)) (kk : X g nL (pc + 1) lv (.int (-x) :: st) ws k n) : X g nL pc lv (.int x :: st) ws k n := fun hD H locs ls hl hP hS => lv_ineg G.exec G.code dg (kk hD H locs ls hl hP hS)
theorem x_lneg (G : XO g own cc nL d mc ms) {x : Int64} (dg : decode cc pc = .ok (.lneg, 1)) (kk : X g nL (pc + 1) lv (.long (-x) :: st) ws k n) : X g nL pc lv (.long x :: st) ws k n := fun hD H locs ls hl hP hS => lv_lneg G.exec G.code dg (kk hD H locs ls hl hP hS)
theorem x_i2l (G : XO g own cc nL d mc ms) {x : Int32} (dg : decode cc pc = .ok (.i2l, 1)) (kk : X g nL (pc + 1) lv (.long (x.toInt64) :: st) ws k n) : X g nL pc lv (.int x :: st) ws k n := fun hD H locs ls hl hP hS => lv_i2l G.exec G.code dg rfl (kk hD H locs ls hl hP hS)
theorem x_l2i (G : XO g own cc nL d mc ms) {x : Int64} (dg : decode cc pc = .ok (.l2i, 1)) (kk : X g nL (pc + 1) lv (.int (x.toInt32) :: st) ws k n) : X g nL pc lv (.long x :: st) ws k n := fun hD H locs ls hl hP hS => lv_l2i G.exec G.code dg rfl (kk hD H locs ls hl hP hS)
theorem x_i2b (G : XO g own cc nL d mc ms) {x : Int32} (dg : decode cc pc = .ok (.i2b, 1)) (kk : X g nL (pc + 1) lv (.int (x.toInt8.toInt32) :: st) ws k n) : X g nL pc lv (.int x :: st) ws k n := fun hD H locs ls hl hP hS => lv_i2b G.exec G.code dg rfl (kk hD H locs ls hl hP hS)
theorem x_i2s (G : XO g own cc nL d mc ms) {x : Int32} (dg : decode cc pc = .ok (.i2s, 1)) (kk : X g nL (pc + 1) lv (.int (x.toInt16.toInt32) :: st) ws k n) : X g nL pc lv (.int x :: st) ws k n := fun hD H locs ls hl hP hS => lv_i2s G.exec G.code dg rfl (kk hD H locs ls hl hP hS)
theorem x_i2f (G : XO g own cc nL d mc ms) {x : Int32} (dg : decode cc pc = .ok (.i2f, 1)) (kk : X g nL (pc + 1) lv (.float (FP.i2f x) :: st) ws k n) : X g nL pc lv (.int x :: st) ws k n := fun hD H locs ls hl hP hS => lv_i2f G.exec G.code dg (kk hD H locs ls hl hP hS)
theorem x_i2d (G : XO g own cc nL d mc ms) {x : Int32} (dg : decode cc pc = .ok (.i2d, 1)) (kk : X g nL (pc + 1) lv (.double (FP.i2d x) :: st) ws k n) : X g nL pc lv (.int x :: st) ws k n := fun hD H locs ls hl hP hS => lv_i2d G.exec G.code dg (kk hD H locs ls hl hP hS)
theorem x_l2f (G : XO g own cc nL d mc ms) {x : Int64} (dg : decode cc pc = .ok (.l2f, 1)) (kk : X g nL (pc + 1) lv (.float (FP.l2f x) :: st) ws k n) : X g nL pc lv (.long x :: st) ws k n := fun hD H locs ls hl hP hS => lv_l2f G.exec G.code dg (kk hD H locs ls hl hP hS)
theorem x_l2d (G : XO g own cc nL d mc ms) {x : Int64} (dg : decode cc pc = .ok (.l2d, 1)) (kk : X g nL (pc + 1) lv (.double (FP.l2d x) :: st) ws k n) : X g nL pc lv (.long x :: st) ws k n := fun hD H locs ls hl hP hS => lv_l2d G.exec G.code dg (kk hD H locs ls hl hP hS)
theorem x_f2i (G : XO g own cc nL d mc ms) {x : UInt32} (dg : decode cc pc = .ok (.f2i, 1)) (kk : X g nL (pc + 1) lv (.int (FP.f2i x) :: st) ws k n) : X g nL pc lv (.float x :: st) ws k n := fun hD H locs ls hl hP hS => lv_f2i G.exec G.code dg (kk hD H locs ls hl hP hS)
theorem x_f2l (G : XO g own cc nL d mc ms) {x : UInt32} (dg : decode cc pc = .ok (.f2l, 1)) (kk : X g nL (pc + 1) lv (.long (FP.f2l x) :: st) ws k n) : X g nL pc lv (.float x :: st) ws k n := fun hD H locs ls hl hP hS => lv_f2l G.exec G.code dg (kk hD H locs ls hl hP hS)
theorem x_d2i (G : XO g own cc nL d mc ms) {x : UInt64} (dg : decode cc pc = .ok (.d2i, 1)) (kk : X g nL (pc + 1) lv (.int (FP.d2i x) :: st) ws k n) : X g nL pc lv (.double x :: st) ws k n := fun hD H locs ls hl hP hS => lv_d2i G.exec G.code dg (kk hD H locs ls hl hP hS)
theorem x_d2l (G : XO g own cc nL d mc ms) {x : UInt64} (dg : decode cc pc = .ok (.d2l, 1)) (kk : X g nL (pc + 1) lv (.long (FP.d2l x) :: st) ws k n) : X g nL pc lv (.double x :: st) ws k n := fun hD H locs ls hl hP hS => lv_d2l G.exec G.code dg (kk hD H locs ls hl hP hS)
theorem x_fneg (G : XO g own cc nL d mc ms) {x : UInt32} (dg : decode cc pc = .ok (.fneg, 1)) (kk : X g nL (pc + 1) lv (.float (FP.fneg x) :: st) ws k n) : X g nL pc lv (.float x :: st) ws k n := fun hD H locs ls hl hP hS => lv_fneg G.exec G.code dg (kk hD H locs ls hl hP hS)
theorem x_dneg (G : XO g own cc nL d mc ms) {x : UInt64} (dg : decode cc pc = .ok (.dneg, 1)) (kk : X g nL (pc + 1) lv (.double (FP.dneg x) :: st) ws k n) : X g nL pc lv (.double x :: st) ws k n := fun hD H locs ls hl hP hS => lv_dneg G.exec G.code dg (kk hD H locs ls hl hP hS)
theorem x_f2d (G : XO g own cc nL d mc ms) {x : UInt32} (dg : decode cc pc = .ok (.f2d, 1)) (hne : vf_n64 (FP.f2d x)) (kk : X g nL (pc + 1) lv (.double (FP.f2d x) :: st) ws k n) : X g nL pc lv (.float x :: st) ws k n := fun hD H locs ls hl hP hS => lv_f2d G.exec G.code dg hne (kk hD H locs ls hl hP hS)
theorem x_d2f (G : XO g own cc nL d mc ms) {x : UInt64} (dg : decode cc pc = .ok (.d2f, 1)) (hne : vf_n32 (FP.d2f x)) (kk : X g nL (pc + 1) lv (.float (FP.d2f x) :: st) ws k n) : X g nL pc lv (.double x :: st) ws k n := fun hD H locs ls hl hP hS => lv_d2f G.exec G.code dg hne (kk hD H locs ls hl hP hS)
theorem x_fadd (G : XO g own cc nL d mc ms) {x y : UInt32} (dg : decode cc pc = .ok (.fadd, 1)) (hne : vf_n32 (FP.fadd x y)) (kk : X g nL (pc + 1) lv (.float (FP.fadd x y) :: st) ws k n) : X g nL pc lv (.float y :: .float x :: st) ws k n := fun hD H locs ls hl hP hS => lv_fadd G.exec G.code dg hne (kk hD H locs ls hl hP hS)
theorem x_fsub (G : XO g own cc nL d mc ms) {x y : UInt32} (dg : decode cc pc = .ok (.fsub, 1)) (hne : vf_n32 (FP.fsub x y)) (kk : X g nL (pc + 1) lv (.float (FP.fsub x y) :: st) ws k n) : X g nL pc lv (.float y :: .float x :: st) ws k n := fun hD H locs ls hl hP hS => lv_fsub G.exec G.code dg hne (kk hD H locs ls hl hP hS)
theorem x_fmul (G : XO g own cc nL d mc ms) {x y : UInt32} (dg : decode cc pc = .ok (.fmul, 1)) (hne : vf_n32 (FP.fmul x y)) (kk : X g nL (pc + 1) lv (.float (FP.fmul x y) :: st) ws k n) : X g nL pc lv (.float y :: .float x :: st) ws k n := fun hD H locs ls hl hP hS => lv_fmul G.exec G.code dg hne (kk hD H locs ls hl hP hS)
theorem x_fdiv (G : XO g own cc nL d mc ms) {x y : UInt32} (dg : decode cc pc = .ok (.fdiv, 1)) (hne : vf_n32 (FP.fdiv x y)) (kk : X g nL (pc + 1) lv (.float (FP.fdiv x y) :: st) ws k n) : X g nL pc lv (.float y :: .float x :: st) ws k n := fun hD H locs ls hl hP hS => lv_fdiv G.exec G.code dg hne (kk hD H locs ls hl hP hS)
theorem x_frem (G : XO g own cc nL d mc ms) {x y : UInt32} (dg : decode cc pc = .ok (.frem, 1)) (hne : vf_n32 (FP.frem x y)) (kk : X g nL (pc + 1) lv (.float (FP.frem x y) :: st) ws k n) : X g nL pc lv (.float y :: .float x :: st) ws k n := fun hD H locs ls hl hP hS => lv_frem G.exec G.code dg hne (kk hD H locs ls hl hP hS)
theorem x_fcmp (G : XO g own cc nL d mc ms) {x y : UInt32} {op : CmpOp} (dg : decode cc pc = .ok (.fcmp op, 1)) (kk : X g nL (pc + 1) lv (.int (Op.cmpValue (FP.fcmp x y) op) :: st) ws k n) : X g nL pc lv (.float y :: .float x :: st) ws k n := fun hD H locs ls hl hP hS => lv_fcmp G.exec G.code dg (kk hD H locs ls hl hP hS)
theorem x_dadd (G : XO g own cc nL d mc ms) {x y : UInt64} (dg : decode cc pc = .ok (.dadd, 1)) (hne : vf_n64 (FP.dadd x y)) (kk : X g nL (pc + 1) lv (.double (FP.dadd x y) :: st) ws k n) : X g nL pc lv (.double y :: .double x :: st) ws k n := fun hD H locs ls hl hP hS => lv_dadd G.exec G.code dg hne (kk hD H locs ls hl hP hS)
theorem x_dsub (G : XO g own cc nL d mc ms) {x y : UInt64} (dg : decode cc pc = .ok (.dsub, 1)) (hne : vf_n64 (FP.dsub x y)) (kk : X g nL (pc + 1) lv (.double (FP.dsub x y) :: st) ws k n) : X g nL pc lv (.double y :: .double x :: st) ws k n := fun hD H locs ls hl hP hS => lv_dsub G.exec G.code dg hne (kk hD H locs ls hl hP hS)
theorem x_dmul (G : XO g own cc nL d mc ms) {x y : UInt64} (dg : decode cc pc = .ok (.dmul, 1)) (hne : vf_n64 (FP.dmul x y)) (kk : X g nL (pc + 1) lv (.double (FP.dmul x y) :: st) ws k n) : X g nL pc lv (.double y :: .double x :: st) ws k n := fun hD H locs ls hl hP hS => lv_dmul G.exec G.code dg hne (kk hD H locs ls hl hP hS)
theorem x_ddiv (G : XO g own cc nL d mc ms) {x y : UInt64} (dg : decode cc pc = .ok (.ddiv, 1)) (hne : vf_n64 (FP.ddiv x y)) (kk : X g nL (pc + 1) lv (.double (FP.ddiv x y) :: st) ws k n) : X g nL pc lv (.double y :: .double x :: st) ws k n := fun hD H locs ls hl hP hS => lv_ddiv G.exec G.code dg hne (kk hD H locs ls hl hP hS)
theorem x_drem (G : XO g own cc nL d mc ms) {x y : UInt64} (dg : decode cc pc = .ok (.drem, 1)) (hne : vf_n64 (FP.drem x y)) (kk : X g nL (pc + 1) lv (.double (FP.drem x y) :: st) ws k n) : X g nL pc lv (.double y :: .double x :: st) ws k n := fun hD H locs ls hl hP hS => lv_drem G.exec G.code dg hne (kk hD H locs ls hl hP hS)
theorem x_dcmp (G : XO g own cc nL d mc ms) {x y : UInt64} {op : CmpOp} (dg : decode cc pc = .ok (.dcmp op, 1)) (kk : X g nL (pc + 1) lv (.int (Op.cmpValue (FP.dcmp x y) op) :: st) ws k n) : X g nL pc lv (.double y :: .double x :: st) ws k n := fun hD H locs ls hl hP hS => lv_dcmp G.exec G.code dg (kk hD H locs ls hl hP hS)
theorem x_lcmp (G : XO g own cc nL d mc ms) {x y : Int64} (dg : decode cc pc = .ok (.lcmp, 1)) (kk : X g nL (pc + 1) lv (.int (lg_cmp x y) :: st) ws k n) : X g nL pc lv (.long y :: .long x :: st) ws k n := fun hD H locs ls hl hP hS => W.lcmp G.exec G.code dg (kk hD H locs ls hl hP hS)
theorem x_dup (G : XO g own cc nL d mc ms) {a : Value} (dg : decode cc pc = .ok (.dup, 1)) (ha : a.category = 1) (kk : X g nL (pc + 1) lv (a :: a :: st) ws k n) : X g nL pc lv (a :: st) ws k n := fun hD H locs ls hl hP hS => lv_dup G.exec G.code dg ha (kk hD H locs ls hl hP hS)
theorem x_pop (G : XO g own cc nL d mc ms) {a : Value} (dg : decode cc pc = .ok (.pop, 1)) (ha : a.category = 1) (kk : X g nL (pc + 1) lv st ws k n) : X g nL pc lv (a :: st) ws k n := fun hD H locs ls hl hP hS => lv_pop G.exec G.code dg ha (kk hD H locs ls hl hP hS)
theorem x_dup_x1 (G : XO g own cc nL d mc ms) {a b : Value} (dg : decode cc pc = .ok (.dup_x1, 1)) (ha : a.category = 1) (hb : b.category = 1) (kk : X g nL (pc + 1) lv (a :: b :: a :: st) ws k n) : X g nL pc lv (a :: b :: st) ws k n := fun hD H locs ls hl hP hS => lv_dup_x1 G.exec G.code dg ha hb (kk hD H locs ls hl hP hS)
theorem x_dup2_11 (G : XO g own cc nL d mc ms) {a b : Value} (dg : decode cc pc = .ok (.dup2, 1)) (ha : a.category = 1) (hb : b.category = 1) (kk : X g nL (pc + 1) lv (a :: b :: a :: b :: st) ws k n) : X g nL pc lv (a :: b :: st) ws k n := fun hD H locs ls hl hP hS => lv_dup2_11 G.exec G.code dg ha hb (kk hD H locs ls hl hP hS)
theorem x_dup2_2 (G : XO g own cc nL d mc ms) {a : Value} (dg : decode cc pc = .ok (.dup2, 1)) (ha : a.category = 2) (kk : X g nL (pc + 1) lv (a :: a :: st) ws k n) : X g nL pc lv (a :: st) ws k n := fun hD H locs ls hl hP hS => lv_dup2_2 G.exec G.code dg ha (kk hD H locs ls hl hP hS)
theorem x_dup_x2 (G : XO g own cc nL d mc ms) {a b v : Value} (dg : decode cc pc = .ok (.dup_x2, 1)) (ha : a.category = 1) (hb : b.category = 1) (hv : v.category = 1) (kk : X g nL (pc + 1) lv (a :: b :: v :: a :: st) ws k n) : X g nL pc lv (a :: b :: v :: st) ws k n := fun hD H locs ls hl hP hS => lv_dup_x2 G.exec G.code dg ha hb hv (kk hD H locs ls hl hP hS)
theorem x_pop2_2 (G : XO g own cc nL d mc ms) {a : Value} (dg : decode cc pc = .ok (.pop2, 1)) (ha : a.category = 2) (kk : X g nL (pc + 1) lv st ws k n) : X g nL pc lv (a :: st) ws k n := fun hD H locs ls hl hP hS => lv_pop2_2 G.exec G.code dg ha (kk hD H locs ls hl hP hS)
theorem x_goto (G : XO g own cc nL d mc ms) {off : Int} {tgt : Nat} (dg : decode cc pc = .ok (.goto off, 3)) (ht : (pc : Int) + off = (tgt : Int)) (kk : X g nL tgt lv st ws k n) : X g nL pc lv st ws k n := fun hD H locs ls hl hP hS => lv_goto G.exec G.code dg ht (kk hD H locs ls hl hP hS)
theorem x_if_eq (G : XO g own cc nL d mc ms) {x : Int32} {off : Int} {tgt : Nat} (dg : decode cc pc = .ok (.ifCond .eq off, 3)) (ht : (pc : Int) + off = (tgt : Int)) (kt : x = 0 → X g nL tgt lv st ws k n) (kf : ¬ x = 0 → X g nL (pc + 3) lv st ws k n) : X g nL pc lv (.int x :: st) ws k n := fun hD H locs ls hl hP hS => lv_if_eq G.exec G.code dg ht (fun hh => kt hh hD H locs ls hl hP hS) (fun hh => kf hh hD H locs ls hl hP hS)
theorem x_icmp_eq (G : XO g own cc nL d mc ms) {x y : Int32} {off : Int} {tgt : Nat} (dg : decode cc pc = .ok (.if_icmp .eq off, 3)) (ht : (pc : Int) + off = (tgt : Int)) (kt : x = y → X g nL tgt lv st ws k n) (kf : ¬ x = y → X g nL (pc + 3) lv st ws k n) : X g nL pc lv (.int y :: .int x :: st) ws k n := fun hD H locs ls hl hP hS => lv_icmp_eq G.exec G.code dg ht (fun hh => kt hh hD H locs ls hl hP hS) (fun hh => kf hh hD H locs ls hl hP hS)
theorem x_if_ne (G : XO g own cc nL d mc ms) {x : Int32} {off : Int} {tgt : Nat} (dg : decode cc pc = .ok (.ifCond .ne off, 3)) (ht : (pc : Int) + off = (tgt : Int)) (kt : ¬ x = 0 → X g nL tgt lv st ws k n) (kf : x = 0 → X g nL (pc + 3) lv st ws k n) : X g nL pc lv (.int x :: st) ws k n := fun hD H locs ls hl hP hS => lv_if_ne G.exec G.code dg ht (fun hh => kt hh hD H locs ls hl hP hS) (fun hh => kf hh hD H locs ls hl hP hS)
theorem x_icmp_ne (G : XO g own cc nL d mc ms) {x y : Int32} {off : Int} {tgt : Nat} (dg : decode cc pc = .ok (.if_icmp .ne off, 3)) (ht : (pc : Int) + off = (tgt : Int)) (kt : ¬ x = y → X g nL tgt lv st ws k n) (kf : x = y → X g nL (pc + 3) lv st ws k n) : X g nL pc lv (.int y :: .int x :: st) ws k n := fun hD H locs ls hl hP hS => lv_icmp_ne G.exec G.code dg ht (fun hh => kt hh hD H locs ls hl hP hS) (fun hh => kf hh hD H locs ls hl hP hS)
theorem x_if_lt (G : XO g own cc nL d mc ms) {x : Int32} {off : Int} {tgt : Nat} (dg : decode cc pc = .ok (.ifCond .lt off, 3)) (ht : (pc : Int) + off = (tgt : Int)) (kt : x < 0 → X g nL tgt lv st ws k n) (kf : ¬ x < 0 → X g nL (pc + 3) lv st ws k n) : X g nL pc lv (.int x :: st) ws k n := fun hD H locs ls hl hP hS => lv_if_lt G.exec G.code dg ht (fun hh => kt hh hD H locs ls hl hP hS) (fun hh => kf hh hD H locs ls hl hP hS)
theorem x_icmp_lt (G : XO g own cc nL d mc ms) {x y : Int32} {off : Int} {tgt : Nat} (dg : decode cc pc = .ok (.if_icmp .lt off, 3)) (ht : (pc : Int) + off = (tgt : Int)) (kt : x < y → X g nL tgt lv st ws k n) (kf : ¬ x < y → X g nL (pc + 3) lv st ws k n) : X g nL pc lv (.int y :: .int x :: st) ws k n := fun hD H locs ls hl hP hS => lv_icmp_lt G.exec G.code dg ht (fun hh => kt hh hD H locs ls hl hP hS) (fun hh => kf hh hD H locs ls hl hP hS)
theorem x_if_ge (G : XO g own cc nL d mc ms) {x : Int32} {off : Int} {tgt : Nat} (dg : decode cc pc = .ok (.ifCond .ge off, 3)) (ht : (pc : Int) + off = (tgt : Int)) (kt : 0 ≤ x → X g nL tgt lv st ws k n) (kf : ¬ 0 ≤ x → X g nL (pc + 3) lv st ws k n) : X g nL pc lv (.int x :: st) ws k n := fun hD H locs ls hl hP hS => lv_if_ge G.exec G.code dg ht (fun hh => kt hh hD H locs ls hl hP hS) (fun hh => kf hh hD H locs ls hl hP hS)
theorem x_icmp_ge (G : XO g own cc nL d mc ms) {x y : Int32} {off : Int} {tgt : Nat} (dg : decode cc pc = .ok (.if_icmp .ge off, 3)) (ht : (pc : Int) + off = (tgt : Int)) (kt : y ≤ x → X g nL tgt lv st ws k n) (kf : ¬ y ≤ x → X g nL (pc + 3) lv st ws k n) : X g nL pc lv (.int y :: .int x :: st) ws k n := fun hD H locs ls hl hP hS => lv_icmp_ge G.exec G.code dg ht (fun hh => kt hh hD H locs ls hl hP hS) (fun hh => kf hh hD H locs ls hl hP hS)
theorem x_if_gt (G : XO g own cc nL d mc ms) {x : Int32} {off : Int} {tgt : Nat} (dg : decode cc pc = .ok (.ifCond .gt off, 3)) (ht : (pc : Int) + off = (tgt : Int)) (kt : 0 < x → X g nL tgt lv st ws k n) (kf : ¬ 0 < x → X g nL (pc + 3) lv st ws k n) : X g nL pc lv (.int x :: st) ws k n := fun hD H locs ls hl hP hS => lv_if_gt G.exec G.code dg ht (fun hh => kt hh hD H locs ls hl hP hS) (fun hh => kf hh hD H locs ls hl hP hS)
theorem x_icmp_gt (G : XO g own cc nL d mc ms) {x y : Int32} {off : Int} {tgt : Nat} (dg : decode cc pc = .ok (.if_icmp .gt off, 3)) (ht : (pc : Int) + off = (tgt : Int)) (kt : y < x → X g nL tgt lv st ws k n) (kf : ¬ y < x → X g nL (pc + 3) lv st ws k n) : X g nL pc lv (.int y :: .int x :: st) ws k n := fun hD H locs ls hl hP hS => lv_icmp_gt G.exec G.code dg ht (fun hh => kt hh hD H locs ls hl hP hS) (fun hh => kf hh hD H locs ls hl hP hS)
theorem x_if_le (G : XO g own cc nL d mc ms) {x : Int32} {off : Int} {tgt : Nat} (dg : decode cc pc = .ok (.ifCond .le off, 3)) (ht : (pc : Int) + off = (tgt : Int)) (kt : x ≤ 0 → X g nL tgt lv st ws k n) (kf : ¬ x ≤ 0 → X g nL (pc + 3) lv st ws k n) : X g nL pc lv (.int x :: st) ws k n := fun hD H locs ls hl hP hS => lv_if_le G.exec G.code dg ht (fun hh => kt hh hD H locs ls hl hP hS) (fun hh => kf hh hD H locs ls hl hP hS)
theorem x_icmp_le (G : XO g own cc nL d mc ms) {x y : Int32} {off : Int} {tgt : Nat} (dg : decode cc pc = .ok (.if_icmp .le off, 3)) (ht : (pc : Int) + off = (tgt : Int)) (kt : x ≤ y → X g nL tgt lv st ws k n) (kf : ¬ x ≤ y → X g nL (pc + 3) lv st ws k n) : X g nL pc lv (.int y :: .int x :: st) ws k n := fun hD H locs ls hl hP hS => lv_icmp_le G.exec G.code dg ht (fun hh => kt hh hD H locs ls hl hP hS) (fun hh => kf hh hD H locs ls hl hP hS)
theorem x_acmp_eq (G : XO g own cc nL d mc ms) {rx ry : Option Nat} {off : Int} {tgt : Nat} (dg : decode cc pc = .ok (.if_acmp .eq off, 3)) (ht : (pc : Int) + off = (tgt : Int)) (kt : rx = ry → X g nL tgt lv st ws k n) (kf : ¬ rx = ry → X g nL (pc + 3) lv st ws k n) : X g nL pc lv (va_rf ry :: va_rf rx :: st) ws k n := fun hD H locs ls hl hP hS => lv_acmp_eq G.exec G.code dg ht (fun hh => kt hh hD H locs ls hl hP hS) (fun hh => kf hh hD H locs ls hl hP hS)
theorem x_acmp_ne (G : XO g own cc nL d mc ms) {rx ry : Option Nat} {off : Int} {tgt : Nat} (dg : decode cc pc = .ok (.if_acmp .ne off, 3)) (ht : (pc : Int) + off = (tgt : Int)) (kt : ¬ rx = ry → X g nL tgt lv st ws k n) (kf : rx = ry → X g nL (pc + 3) lv st ws k n) : X g nL pc lv (va_rf ry :: va_rf rx :: st) ws k n := fun hD H locs ls hl hP hS => lv_acmp_ne G.exec G.code dg ht (fun hh => kt hh hD H locs ls hl hP hS) (fun hh => kf hh hD H locs ls hl hP hS)
theorem x_ifnonnull (G : XO g own cc nL d mc ms) {x : Nat} {off : Int} {tgt : Nat} (dg : decode cc pc = .ok (.ifnonnull off, 3)) (ht : (pc : Int) + off = (tgt : Int)) (kk : X g nL tgt lv st ws k n) : X g nL pc lv (.ref x :: st) ws k n := fun hD H locs ls hl hP hS => lv_ifnonnull G.exec G.code dg ht (kk hD H locs ls hl hP hS)
theorem x_ifnull (G : XO g own cc nL d mc ms) {x : Nat} {off : Int} (dg : decode cc pc = .ok (.ifnull off, 3)) (kk : X g nL (pc + 3) lv st ws k n) : X g nL pc lv (.ref x :: st) ws k n := fun hD H locs ls hl hP hS => lv_ifnull G.exec G.code dg (kk hD H locs ls hl hP hS)
theorem x_ifnullN (G : XO g own cc nL d mc ms) {off : Int} {tgt : Nat} (dg : decode cc pc = .ok (.ifnull off, 3)) (ht : (pc : Int) + off = (tgt : Int)) (kk : X g nL tgt lv st ws k n) : X g nL pc lv (.null :: st) ws k n := fun hD H locs ls hl hP hS => lv_ifnullN G.exec G.code dg ht (kk hD H locs ls hl hP hS)
theorem x_ifnonnullN (G : XO g own cc nL d mc ms) {off : Int} (dg : decode cc pc = .ok (.ifnonnull off, 3)) (kk : X g nL (pc + 3) lv st ws k n) : X g nL pc lv (.null :: st) ws k n := fun hD H locs ls hl hP hS => lv_ifnonnullN G.exec G.code dg (kk hD H locs ls hl hP hS)
theorem x_tableOut (G : XO g own cc nL d mc ms) {dflt lo hi : Int} {offs : Array Int} {len : Nat} {x : Int32} {tgt : Nat} (dg : decode cc pc = .ok (.tableswitch dflt lo hi offs, len)) (h : x.toInt < lo ∨ hi < x.toInt) (ht : (pc : Int) + dflt = (tgt : Int)) (kk : X g nL tgt lv st ws k n) : X g nL pc lv (.int x :: st) ws k n := fun hD H locs ls hl hP hS => lv_tableOut G.exec G.code dg h ht (kk hD H locs ls hl hP hS)
theorem x_tableIn (G : XO g own cc nL d mc ms) {dflt lo hi : Int} {offs : Array Int} {len : Nat} {x : Int32} {off : Int} {tgt : Nat} (dg : decode cc pc = .ok (.tableswitch dflt lo hi offs, len)) (h1 : ¬ x.toInt < lo) (h2 : ¬ hi < x.toInt) (ho : offs[(x.toInt - lo).toNat]? = some off) (ht : (pc : Int) + off = (tgt : Int)) (kk : X g nL tgt lv st ws k n) : X g nL pc lv (.int x :: st) ws k n := fun hD H locs ls hl hP hS => lv_tableIn G.exec G.code dg h1 h2 ho ht (kk hD H locs ls hl hP hS)
theorem x_lookup (G : XO g own cc nL d mc ms) {dflt : Int} {ps : Array (Int × Int)} {len : Nat} {x : Int32} {off : Int} {tgt : Nat} (dg : decode cc pc = .ok (.lookupswitch dflt ps, len)) (hp : (ps.toList.zip (ps.toList.drop 1)).all (fun (a, next) => a.1 < next.1) = true) (ho : Op.lookupswitch.offset ps.toList dflt x.toInt = off) (ht : (pc : Int) + off = (tgt : Int)) (kk : X g nL tgt lv st ws k n) : X g nL pc lv (.int x :: st) ws k n := fun hD H locs ls hl hP hS => lv_lookup G.exec G.code dg hp ho ht (kk hD H locs ls hl hP hS)
/-- a switch by its place: the int is a written one -/
theorem x_tableAt (G : XO g own cc nL d mc ms) {dflt lo hi : Int} {offs : Array Int} {len : Nat} {x c : Int32} {off : Int} {tgt : Nat} (dg : decode cc pc = .ok (.tableswitch dflt lo hi offs, len)) (hx : x = c) (h : decide (lo ≤ c.toInt) && decide (c.toInt ≤ hi) && decide (offs[(c.toInt - lo).toNat]? = some off) = true) (ht : (pc : Int) + off = (tgt : Int)) (kk : X g nL tgt lv st ws k n) : X g nL pc lv (.int x :: st) ws k n := by
  subst hx
  simp only [Bool.and_eq_true, decide_eq_true_eq] at h
  exact x_tableIn G dg (by omega) (by omega) h.2 ht kk
/-- a switch's other way: the int is none of the written ones -/
theorem x_tableNo (G : XO g own cc nL d mc ms) {dflt lo hi : Int} {offs : Array Int} {len : Nat} {x : Int32} {tgt : Nat} (dg : decode cc pc = .ok (.tableswitch dflt lo hi offs, len)) (cs : List Int32) (hc : cs.map Int32.toInt = (List.range cs.length).map (fun (i : Nat) => lo + (i : Int))) (hn : lo + (cs.length : Int) = hi + 1) (h : ∀ c ∈ cs, ¬ x = c) (ht : (pc : Int) + dflt = (tgt : Int)) (kk : X g nL tgt lv st ws k n) : X g nL pc lv (.int x :: st) ws k n := by
  refine x_tableOut G dg ?_ ht kk
  refine Classical.byContradiction fun hno => ?_
  have h1 : lo ≤ x.toInt := by omega
  have h2 : x.toInt ≤ hi := by omega
  have h3 : (x.toInt - lo).toNat < cs.length := by omega
  have h4 : (cs.map Int32.toInt)[(x.toInt - lo).toNat]? = some x.toInt := by
    rw [hc, List.getElem?_map, List.getElem?_range h3]
    simp only [Option.map_some]
    congr 1
    omega
  rw [List.getElem?_map] at h4
  cases hq : cs[(x.toInt - lo).toNat]? with
  | none => rw [hq] at h4; cases h4
  | some c =>
    rw [hq] at h4
    exact h c (List.mem_of_getElem? hq) (Int32.toInt_inj.mp (Option.some.inj h4).symm)
theorem x_ldc (G : XO g own cc nL d mc ms) {i : Nat} {v : Int32} (hq : Cond.constant own i v ∈ lw_all) (dg : decode cc pc = .ok (.ldc i, 2)) (kk : X g nL (pc + 2) lv (.int v :: st) ws k n) : X g nL pc lv st ws k n := fun hD H locs ls hl hP hS => lv_ldc G.exec G.code G.cls (G.hts _ hq) dg (kk hD H locs ls hl hP hS)
theorem x_ldcf (G : XO g own cc nL d mc ms) {i : Nat} {v : UInt32} (hq : Cond.constantFloat own i v ∈ lw_all) (dg : decode cc pc = .ok (.ldc i, 2)) (kk : X g nL (pc + 2) lv (.float v :: st) ws k n) : X g nL pc lv st ws k n := fun hD H locs ls hl hP hS => lv_ldcf G.exec G.code G.cls (G.hts _ hq) dg (kk hD H locs ls hl hP hS)
theorem x_ldc2 (G : XO g own cc nL d mc ms) {i : Nat} {v : Int64} (hq : Cond.constantLong own i v ∈ lw_all) (dg : decode cc pc = .ok (.ldc2_w i, 3)) (kk : X g nL (pc + 3) lv (.long v :: st) ws k n) : X g nL pc lv st ws k n := fun hD H locs ls hl hP hS => lv_ldc2 G.exec G.code G.cls (G.hts _ hq) dg (kk hD H locs ls hl hP hS)
theorem x_ldc2d (G : XO g own cc nL d mc ms) {i : Nat} {v : UInt64} (hq : Cond.constantDouble own i v ∈ lw_all) (dg : decode cc pc = .ok (.ldc2_w i, 3)) (kk : X g nL (pc + 3) lv (.double v :: st) ws k n) : X g nL pc lv st ws k n := fun hD H locs ls hl hP hS => lv_ldc2d G.exec G.code G.cls (G.hts _ hq) dg (kk hD H locs ls hl hP hS)
theorem x_ldcw (G : XO g own cc nL d mc ms) {i : Nat} {v : Int32} (hq : Cond.constant own i v ∈ lw_all) (dg : decode cc pc = .ok (.ldc_w i, 3)) (kk : X g nL (pc + 3) lv (.int v :: st) ws k n) : X g nL pc lv st ws k n := fun hD H locs ls hl hP hS => lv_ldcw G.exec G.code G.cls (G.hts _ hq) dg (kk hD H locs ls hl hP hS)
def dlt (x y : UInt64) : Prop := FP.dcmp x y = some .lt
def dgt (x y : UInt64) : Prop := FP.dcmp x y = some .gt
def deq (x y : UInt64) : Prop := FP.dcmp x y = some .eq
def dle (x y : UInt64) : Prop := FP.dcmp x y = some .lt ∨ FP.dcmp x y = some .eq
def dge (x y : UInt64) : Prop := FP.dcmp x y = some .gt ∨ FP.dcmp x y = some .eq
def flt (x y : UInt32) : Prop := FP.fcmp x y = some .lt
def fgt (x y : UInt32) : Prop := FP.fcmp x y = some .gt
def feq (x y : UInt32) : Prop := FP.fcmp x y = some .eq
def fle (x y : UInt32) : Prop := FP.fcmp x y = some .lt ∨ FP.fcmp x y = some .eq
def fge (x y : UInt32) : Prop := FP.fcmp x y = some .gt ∨ FP.fcmp x y = some .eq
theorem x_fcmpg_lt (G : XO g own cc nL d mc ms) {x y : UInt32} {off : Int} {tgt : Nat} (dg : decode cc pc = .ok (.fcmp .g, 1)) (dg2 : decode cc (pc + 1) = .ok (.ifCond .lt off, 3)) (ht : ((pc + 1 : Nat) : Int) + off = (tgt : Int)) (kt : flt x y → X g nL tgt lv st ws k n) (kf : ¬ flt x y → X g nL (pc + 1 + 3) lv st ws k n) : X g nL pc lv (.float y :: .float x :: st) ws k n := by
  refine x_fcmp G dg (x_if_lt G dg2 ht (fun hh => kt ?_) (fun hh => kf ?_)) <;> (unfold flt; revert hh; cases FP.fcmp x y with
    | none => simp [Op.cmpValue]; try decide
    | some o => cases o <;> simp [Op.cmpValue] <;> try decide)
theorem x_fcmpg_le (G : XO g own cc nL d mc ms) {x y : UInt32} {off : Int} {tgt : Nat} (dg : decode cc pc = .ok (.fcmp .g, 1)) (dg2 : decode cc (pc + 1) = .ok (.ifCond .le off, 3)) (ht : ((pc + 1 : Nat) : Int) + off = (tgt : Int)) (kt : fle x y → X g nL tgt lv st ws k n) (kf : ¬ fle x y → X g nL (pc + 1 + 3) lv st ws k n) : X g nL pc lv (.float y :: .float x :: st) ws k n := by
  refine x_fcmp G dg (x_if_le G dg2 ht (fun hh => kt ?_) (fun hh => kf ?_)) <;> (unfold fle; revert hh; cases FP.fcmp x y with
    | none => simp [Op.cmpValue]; try decide
    | some o => cases o <;> simp [Op.cmpValue] <;> try decide)
theorem x_fcmpg_gt (G : XO g own cc nL d mc ms) {x y : UInt32} {off : Int} {tgt : Nat} (dg : decode cc pc = .ok (.fcmp .g, 1)) (dg2 : decode cc (pc + 1) = .ok (.ifCond .gt off, 3)) (ht : ((pc + 1 : Nat) : Int) + off = (tgt : Int)) (kt : ¬ fle x y → X g nL tgt lv st ws k n) (kf : fle x y → X g nL (pc + 1 + 3) lv st ws k n) : X g nL pc lv (.float y :: .float x :: st) ws k n := by
  refine x_fcmp G dg (x_if_gt G dg2 ht (fun hh => kt ?_) (fun hh => kf ?_)) <;> (unfold fle; revert hh; cases FP.fcmp x y with
    | none => simp [Op.cmpValue]; try decide
    | some o => cases o <;> simp [Op.cmpValue] <;> try decide)
theorem x_fcmpg_ge (G : XO g own cc nL d mc ms) {x y : UInt32} {off : Int} {tgt : Nat} (dg : decode cc pc = .ok (.fcmp .g, 1)) (dg2 : decode cc (pc + 1) = .ok (.ifCond .ge off, 3)) (ht : ((pc + 1 : Nat) : Int) + off = (tgt : Int)) (kt : ¬ flt x y → X g nL tgt lv st ws k n) (kf : flt x y → X g nL (pc + 1 + 3) lv st ws k n) : X g nL pc lv (.float y :: .float x :: st) ws k n := by
  refine x_fcmp G dg (x_if_ge G dg2 ht (fun hh => kt ?_) (fun hh => kf ?_)) <;> (unfold flt; revert hh; cases FP.fcmp x y with
    | none => simp [Op.cmpValue]; try decide
    | some o => cases o <;> simp [Op.cmpValue] <;> try decide)
theorem x_fcmpg_eq (G : XO g own cc nL d mc ms) {x y : UInt32} {off : Int} {tgt : Nat} (dg : decode cc pc = .ok (.fcmp .g, 1)) (dg2 : decode cc (pc + 1) = .ok (.ifCond .eq off, 3)) (ht : ((pc + 1 : Nat) : Int) + off = (tgt : Int)) (kt : feq x y → X g nL tgt lv st ws k n) (kf : ¬ feq x y → X g nL (pc + 1 + 3) lv st ws k n) : X g nL pc lv (.float y :: .float x :: st) ws k n := by
  refine x_fcmp G dg (x_if_eq G dg2 ht (fun hh => kt ?_) (fun hh => kf ?_)) <;> (unfold feq; revert hh; cases FP.fcmp x y with
    | none => simp [Op.cmpValue]; try decide
    | some o => cases o <;> simp [Op.cmpValue] <;> try decide)
theorem x_fcmpg_ne (G : XO g own cc nL d mc ms) {x y : UInt32} {off : Int} {tgt : Nat} (dg : decode cc pc = .ok (.fcmp .g, 1)) (dg2 : decode cc (pc + 1) = .ok (.ifCond .ne off, 3)) (ht : ((pc + 1 : Nat) : Int) + off = (tgt : Int)) (kt : ¬ feq x y → X g nL tgt lv st ws k n) (kf : feq x y → X g nL (pc + 1 + 3) lv st ws k n) : X g nL pc lv (.float y :: .float x :: st) ws k n := by
  refine x_fcmp G dg (x_if_ne G dg2 ht (fun hh => kt ?_) (fun hh => kf ?_)) <;> (unfold feq; revert hh; cases FP.fcmp x y with
    | none => simp [Op.cmpValue]; try decide
    | some o => cases o <;> simp [Op.cmpValue] <;> try decide)
theorem x_fcmpl_lt (G : XO g own cc nL d mc ms) {x y : UInt32} {off : Int} {tgt : Nat} (dg : decode cc pc = .ok (.fcmp .l, 1)) (dg2 : decode cc (pc + 1) = .ok (.ifCond .lt off, 3)) (ht : ((pc + 1 : Nat) : Int) + off = (tgt : Int)) (kt : ¬ fge x y → X g nL tgt lv st ws k n) (kf : fge x y → X g nL (pc + 1 + 3) lv st ws k n) : X g nL pc lv (.float y :: .float x :: st) ws k n := by
  refine x_fcmp G dg (x_if_lt G dg2 ht (fun hh => kt ?_) (fun hh => kf ?_)) <;> (unfold fge; revert hh; cases FP.fcmp x y with
    | none => simp [Op.cmpValue]; try decide
    | some o => cases o <;> simp [Op.cmpValue] <;> try decide)
theorem x_fcmpl_le (G : XO g own cc nL d mc ms) {x y : UInt32} {off : Int} {tgt : Nat} (dg : decode cc pc = .ok (.fcmp .l, 1)) (dg2 : decode cc (pc + 1) = .ok (.ifCond .le off, 3)) (ht : ((pc + 1 : Nat) : Int) + off = (tgt : Int)) (kt : ¬ fgt x y → X g nL tgt lv st ws k n) (kf : fgt x y → X g nL (pc + 1 + 3) lv st ws k n) : X g nL pc lv (.float y :: .float x :: st) ws k n := by
  refine x_fcmp G dg (x_if_le G dg2 ht (fun hh => kt ?_) (fun hh => kf ?_)) <;> (unfold fgt; revert hh; cases FP.fcmp x y with
    | none => simp [Op.cmpValue]; try decide
    | some o => cases o <;> simp [Op.cmpValue] <;> try decide)
theorem x_fcmpl_gt (G : XO g own cc nL d mc ms) {x y : UInt32} {off : Int} {tgt : Nat} (dg : decode cc pc = .ok (.fcmp .l, 1)) (dg2 : decode cc (pc + 1) = .ok (.ifCond .gt off, 3)) (ht : ((pc + 1 : Nat) : Int) + off = (tgt : Int)) (kt : fgt x y → X g nL tgt lv st ws k n) (kf : ¬ fgt x y → X g nL (pc + 1 + 3) lv st ws k n) : X g nL pc lv (.float y :: .float x :: st) ws k n := by
  refine x_fcmp G dg (x_if_gt G dg2 ht (fun hh => kt ?_) (fun hh => kf ?_)) <;> (unfold fgt; revert hh; cases FP.fcmp x y with
    | none => simp [Op.cmpValue]; try decide
    | some o => cases o <;> simp [Op.cmpValue] <;> try decide)
theorem x_fcmpl_ge (G : XO g own cc nL d mc ms) {x y : UInt32} {off : Int} {tgt : Nat} (dg : decode cc pc = .ok (.fcmp .l, 1)) (dg2 : decode cc (pc + 1) = .ok (.ifCond .ge off, 3)) (ht : ((pc + 1 : Nat) : Int) + off = (tgt : Int)) (kt : fge x y → X g nL tgt lv st ws k n) (kf : ¬ fge x y → X g nL (pc + 1 + 3) lv st ws k n) : X g nL pc lv (.float y :: .float x :: st) ws k n := by
  refine x_fcmp G dg (x_if_ge G dg2 ht (fun hh => kt ?_) (fun hh => kf ?_)) <;> (unfold fge; revert hh; cases FP.fcmp x y with
    | none => simp [Op.cmpValue]; try decide
    | some o => cases o <;> simp [Op.cmpValue] <;> try decide)
theorem x_fcmpl_eq (G : XO g own cc nL d mc ms) {x y : UInt32} {off : Int} {tgt : Nat} (dg : decode cc pc = .ok (.fcmp .l, 1)) (dg2 : decode cc (pc + 1) = .ok (.ifCond .eq off, 3)) (ht : ((pc + 1 : Nat) : Int) + off = (tgt : Int)) (kt : feq x y → X g nL tgt lv st ws k n) (kf : ¬ feq x y → X g nL (pc + 1 + 3) lv st ws k n) : X g nL pc lv (.float y :: .float x :: st) ws k n := by
  refine x_fcmp G dg (x_if_eq G dg2 ht (fun hh => kt ?_) (fun hh => kf ?_)) <;> (unfold feq; revert hh; cases FP.fcmp x y with
    | none => simp [Op.cmpValue]; try decide
    | some o => cases o <;> simp [Op.cmpValue] <;> try decide)
theorem x_fcmpl_ne (G : XO g own cc nL d mc ms) {x y : UInt32} {off : Int} {tgt : Nat} (dg : decode cc pc = .ok (.fcmp .l, 1)) (dg2 : decode cc (pc + 1) = .ok (.ifCond .ne off, 3)) (ht : ((pc + 1 : Nat) : Int) + off = (tgt : Int)) (kt : ¬ feq x y → X g nL tgt lv st ws k n) (kf : feq x y → X g nL (pc + 1 + 3) lv st ws k n) : X g nL pc lv (.float y :: .float x :: st) ws k n := by
  refine x_fcmp G dg (x_if_ne G dg2 ht (fun hh => kt ?_) (fun hh => kf ?_)) <;> (unfold feq; revert hh; cases FP.fcmp x y with
    | none => simp [Op.cmpValue]; try decide
    | some o => cases o <;> simp [Op.cmpValue] <;> try decide)
theorem x_dcmpg_lt (G : XO g own cc nL d mc ms) {x y : UInt64} {off : Int} {tgt : Nat} (dg : decode cc pc = .ok (.dcmp .g, 1)) (dg2 : decode cc (pc + 1) = .ok (.ifCond .lt off, 3)) (ht : ((pc + 1 : Nat) : Int) + off = (tgt : Int)) (kt : dlt x y → X g nL tgt lv st ws k n) (kf : ¬ dlt x y → X g nL (pc + 1 + 3) lv st ws k n) : X g nL pc lv (.double y :: .double x :: st) ws k n := by
  refine x_dcmp G dg (x_if_lt G dg2 ht (fun hh => kt ?_) (fun hh => kf ?_)) <;> (unfold dlt; revert hh; cases FP.dcmp x y with
    | none => simp [Op.cmpValue]; try decide
    | some o => cases o <;> simp [Op.cmpValue] <;> try decide)
theorem x_dcmpg_le (G : XO g own cc nL d mc ms) {x y : UInt64} {off : Int} {tgt : Nat} (dg : decode cc pc = .ok (.dcmp .g, 1)) (dg2 : decode cc (pc + 1) = .ok (.ifCond .le off, 3)) (ht : ((pc + 1 : Nat) : Int) + off = (tgt : Int)) (kt : dle x y → X g nL tgt lv st ws k n) (kf : ¬ dle x y → X g nL (pc + 1 + 3) lv st ws k n) : X g nL pc lv (.double y :: .double x :: st) ws k n := by
  refine x_dcmp G dg (x_if_le G dg2 ht (fun hh => kt ?_) (fun hh => kf ?_)) <;> (unfold dle; revert hh; cases FP.dcmp x y with
    | none => simp [Op.cmpValue]; try decide
    | some o => cases o <;> simp [Op.cmpValue] <;> try decide)
theorem x_dcmpg_gt (G : XO g own cc nL d mc ms) {x y : UInt64} {off : Int} {tgt : Nat} (dg : decode cc pc = .ok (.dcmp .g, 1)) (dg2 : decode cc (pc + 1) = .ok (.ifCond .gt off, 3)) (ht : ((pc + 1 : Nat) : Int) + off = (tgt : Int)) (kt : ¬ dle x y → X g nL tgt lv st ws k n) (kf : dle x y → X g nL (pc + 1 + 3) lv st ws k n) : X g nL pc lv (.double y :: .double x :: st) ws k n := by
  refine x_dcmp G dg (x_if_gt G dg2 ht (fun hh => kt ?_) (fun hh => kf ?_)) <;> (unfold dle; revert hh; cases FP.dcmp x y with
    | none => simp [Op.cmpValue]; try decide
    | some o => cases o <;> simp [Op.cmpValue] <;> try decide)
theorem x_dcmpg_ge (G : XO g own cc nL d mc ms) {x y : UInt64} {off : Int} {tgt : Nat} (dg : decode cc pc = .ok (.dcmp .g, 1)) (dg2 : decode cc (pc + 1) = .ok (.ifCond .ge off, 3)) (ht : ((pc + 1 : Nat) : Int) + off = (tgt : Int)) (kt : ¬ dlt x y → X g nL tgt lv st ws k n) (kf : dlt x y → X g nL (pc + 1 + 3) lv st ws k n) : X g nL pc lv (.double y :: .double x :: st) ws k n := by
  refine x_dcmp G dg (x_if_ge G dg2 ht (fun hh => kt ?_) (fun hh => kf ?_)) <;> (unfold dlt; revert hh; cases FP.dcmp x y with
    | none => simp [Op.cmpValue]; try decide
    | some o => cases o <;> simp [Op.cmpValue] <;> try decide)
theorem x_dcmpg_eq (G : XO g own cc nL d mc ms) {x y : UInt64} {off : Int} {tgt : Nat} (dg : decode cc pc = .ok (.dcmp .g, 1)) (dg2 : decode cc (pc + 1) = .ok (.ifCond .eq off, 3)) (ht : ((pc + 1 : Nat) : Int) + off = (tgt : Int)) (kt : deq x y → X g nL tgt lv st ws k n) (kf : ¬ deq x y → X g nL (pc + 1 + 3) lv st ws k n) : X g nL pc lv (.double y :: .double x :: st) ws k n := by
  refine x_dcmp G dg (x_if_eq G dg2 ht (fun hh => kt ?_) (fun hh => kf ?_)) <;> (unfold deq; revert hh; cases FP.dcmp x y with
    | none => simp [Op.cmpValue]; try decide
    | some o => cases o <;> simp [Op.cmpValue] <;> try decide)
theorem x_dcmpg_ne (G : XO g own cc nL d mc ms) {x y : UInt64} {off : Int} {tgt : Nat} (dg : decode cc pc = .ok (.dcmp .g, 1)) (dg2 : decode cc (pc + 1) = .ok (.ifCond .ne off, 3)) (ht : ((pc + 1 : Nat) : Int) + off = (tgt : Int)) (kt : ¬ deq x y → X g nL tgt lv st ws k n) (kf : deq x y → X g nL (pc + 1 + 3) lv st ws k n) : X g nL pc lv (.double y :: .double x :: st) ws k n := by
  refine x_dcmp G dg (x_if_ne G dg2 ht (fun hh => kt ?_) (fun hh => kf ?_)) <;> (unfold deq; revert hh; cases FP.dcmp x y with
    | none => simp [Op.cmpValue]; try decide
    | some o => cases o <;> simp [Op.cmpValue] <;> try decide)
theorem x_dcmpl_lt (G : XO g own cc nL d mc ms) {x y : UInt64} {off : Int} {tgt : Nat} (dg : decode cc pc = .ok (.dcmp .l, 1)) (dg2 : decode cc (pc + 1) = .ok (.ifCond .lt off, 3)) (ht : ((pc + 1 : Nat) : Int) + off = (tgt : Int)) (kt : ¬ dge x y → X g nL tgt lv st ws k n) (kf : dge x y → X g nL (pc + 1 + 3) lv st ws k n) : X g nL pc lv (.double y :: .double x :: st) ws k n := by
  refine x_dcmp G dg (x_if_lt G dg2 ht (fun hh => kt ?_) (fun hh => kf ?_)) <;> (unfold dge; revert hh; cases FP.dcmp x y with
    | none => simp [Op.cmpValue]; try decide
    | some o => cases o <;> simp [Op.cmpValue] <;> try decide)
theorem x_dcmpl_le (G : XO g own cc nL d mc ms) {x y : UInt64} {off : Int} {tgt : Nat} (dg : decode cc pc = .ok (.dcmp .l, 1)) (dg2 : decode cc (pc + 1) = .ok (.ifCond .le off, 3)) (ht : ((pc + 1 : Nat) : Int) + off = (tgt : Int)) (kt : ¬ dgt x y → X g nL tgt lv st ws k n) (kf : dgt x y → X g nL (pc + 1 + 3) lv st ws k n) : X g nL pc lv (.double y :: .double x :: st) ws k n := by
  refine x_dcmp G dg (x_if_le G dg2 ht (fun hh => kt ?_) (fun hh => kf ?_)) <;> (unfold dgt; revert hh; cases FP.dcmp x y with
    | none => simp [Op.cmpValue]; try decide
    | some o => cases o <;> simp [Op.cmpValue] <;> try decide)
theorem x_dcmpl_gt (G : XO g own cc nL d mc ms) {x y : UInt64} {off : Int} {tgt : Nat} (dg : decode cc pc = .ok (.dcmp .l, 1)) (dg2 : decode cc (pc + 1) = .ok (.ifCond .gt off, 3)) (ht : ((pc + 1 : Nat) : Int) + off = (tgt : Int)) (kt : dgt x y → X g nL tgt lv st ws k n) (kf : ¬ dgt x y → X g nL (pc + 1 + 3) lv st ws k n) : X g nL pc lv (.double y :: .double x :: st) ws k n := by
  refine x_dcmp G dg (x_if_gt G dg2 ht (fun hh => kt ?_) (fun hh => kf ?_)) <;> (unfold dgt; revert hh; cases FP.dcmp x y with
    | none => simp [Op.cmpValue]; try decide
    | some o => cases o <;> simp [Op.cmpValue] <;> try decide)
theorem x_dcmpl_ge (G : XO g own cc nL d mc ms) {x y : UInt64} {off : Int} {tgt : Nat} (dg : decode cc pc = .ok (.dcmp .l, 1)) (dg2 : decode cc (pc + 1) = .ok (.ifCond .ge off, 3)) (ht : ((pc + 1 : Nat) : Int) + off = (tgt : Int)) (kt : dge x y → X g nL tgt lv st ws k n) (kf : ¬ dge x y → X g nL (pc + 1 + 3) lv st ws k n) : X g nL pc lv (.double y :: .double x :: st) ws k n := by
  refine x_dcmp G dg (x_if_ge G dg2 ht (fun hh => kt ?_) (fun hh => kf ?_)) <;> (unfold dge; revert hh; cases FP.dcmp x y with
    | none => simp [Op.cmpValue]; try decide
    | some o => cases o <;> simp [Op.cmpValue] <;> try decide)
theorem x_dcmpl_eq (G : XO g own cc nL d mc ms) {x y : UInt64} {off : Int} {tgt : Nat} (dg : decode cc pc = .ok (.dcmp .l, 1)) (dg2 : decode cc (pc + 1) = .ok (.ifCond .eq off, 3)) (ht : ((pc + 1 : Nat) : Int) + off = (tgt : Int)) (kt : deq x y → X g nL tgt lv st ws k n) (kf : ¬ deq x y → X g nL (pc + 1 + 3) lv st ws k n) : X g nL pc lv (.double y :: .double x :: st) ws k n := by
  refine x_dcmp G dg (x_if_eq G dg2 ht (fun hh => kt ?_) (fun hh => kf ?_)) <;> (unfold deq; revert hh; cases FP.dcmp x y with
    | none => simp [Op.cmpValue]; try decide
    | some o => cases o <;> simp [Op.cmpValue] <;> try decide)
theorem x_dcmpl_ne (G : XO g own cc nL d mc ms) {x y : UInt64} {off : Int} {tgt : Nat} (dg : decode cc pc = .ok (.dcmp .l, 1)) (dg2 : decode cc (pc + 1) = .ok (.ifCond .ne off, 3)) (ht : ((pc + 1 : Nat) : Int) + off = (tgt : Int)) (kt : ¬ deq x y → X g nL tgt lv st ws k n) (kf : deq x y → X g nL (pc + 1 + 3) lv st ws k n) : X g nL pc lv (.double y :: .double x :: st) ws k n := by
  refine x_dcmp G dg (x_if_ne G dg2 ht (fun hh => kt ?_) (fun hh => kf ?_)) <;> (unfold deq; revert hh; cases FP.dcmp x y with
    | none => simp [Op.cmpValue]; try decide
    | some o => cases o <;> simp [Op.cmpValue] <;> try decide)
theorem x_lcmp_eq (G : XO g own cc nL d mc ms) {x y : Int64} {off : Int} {tgt : Nat} (dg : decode cc pc = .ok (.lcmp, 1)) (dg2 : decode cc (pc + 1) = .ok (.ifCond .eq off, 3)) (ht : ((pc + 1 : Nat) : Int) + off = (tgt : Int)) (kt : x = y → X g nL tgt lv st ws k n) (kf : ¬ x = y → X g nL (pc + 1 + 3) lv st ws k n) : X g nL pc lv (.long y :: .long x :: st) ws k n := by
  refine x_lcmp G dg (x_if_eq G dg2 ht (fun hh => kt ?_) (fun hh => kf ?_)) <;> simpa only [lg_cmp_eq] using hh
theorem x_lcmp_ne (G : XO g own cc nL d mc ms) {x y : Int64} {off : Int} {tgt : Nat} (dg : decode cc pc = .ok (.lcmp, 1)) (dg2 : decode cc (pc + 1) = .ok (.ifCond .ne off, 3)) (ht : ((pc + 1 : Nat) : Int) + off = (tgt : Int)) (kt : ¬ x = y → X g nL tgt lv st ws k n) (kf : x = y → X g nL (pc + 1 + 3) lv st ws k n) : X g nL pc lv (.long y :: .long x :: st) ws k n := by
  refine x_lcmp G dg (x_if_ne G dg2 ht (fun hh => kt ?_) (fun hh => kf ?_)) <;> simpa only [lg_cmp_eq] using hh
theorem x_lcmp_lt (G : XO g own cc nL d mc ms) {x y : Int64} {off : Int} {tgt : Nat} (dg : decode cc pc = .ok (.lcmp, 1)) (dg2 : decode cc (pc + 1) = .ok (.ifCond .lt off, 3)) (ht : ((pc + 1 : Nat) : Int) + off = (tgt : Int)) (kt : x < y → X g nL tgt lv st ws k n) (kf : ¬ x < y → X g nL (pc + 1 + 3) lv st ws k n) : X g nL pc lv (.long y :: .long x :: st) ws k n := by
  refine x_lcmp G dg (x_if_lt G dg2 ht (fun hh => kt ?_) (fun hh => kf ?_)) <;> simpa only [lg_cmp_lt] using hh
theorem x_lcmp_ge (G : XO g own cc nL d mc ms) {x y : Int64} {off : Int} {tgt : Nat} (dg : decode cc pc = .ok (.lcmp, 1)) (dg2 : decode cc (pc + 1) = .ok (.ifCond .ge off, 3)) (ht : ((pc + 1 : Nat) : Int) + off = (tgt : Int)) (kt : y ≤ x → X g nL tgt lv st ws k n) (kf : ¬ y ≤ x → X g nL (pc + 1 + 3) lv st ws k n) : X g nL pc lv (.long y :: .long x :: st) ws k n := by
  refine x_lcmp G dg (x_if_ge G dg2 ht (fun hh => kt ?_) (fun hh => kf ?_)) <;> simpa only [lg_cmp_ge] using hh
theorem x_lcmp_gt (G : XO g own cc nL d mc ms) {x y : Int64} {off : Int} {tgt : Nat} (dg : decode cc pc = .ok (.lcmp, 1)) (dg2 : decode cc (pc + 1) = .ok (.ifCond .gt off, 3)) (ht : ((pc + 1 : Nat) : Int) + off = (tgt : Int)) (kt : y < x → X g nL tgt lv st ws k n) (kf : ¬ y < x → X g nL (pc + 1 + 3) lv st ws k n) : X g nL pc lv (.long y :: .long x :: st) ws k n := by
  refine x_lcmp G dg (x_if_gt G dg2 ht (fun hh => kt ?_) (fun hh => kf ?_)) <;> simpa only [lg_cmp_gt] using hh
theorem x_lcmp_le (G : XO g own cc nL d mc ms) {x y : Int64} {off : Int} {tgt : Nat} (dg : decode cc pc = .ok (.lcmp, 1)) (dg2 : decode cc (pc + 1) = .ok (.ifCond .le off, 3)) (ht : ((pc + 1 : Nat) : Int) + off = (tgt : Int)) (kt : x ≤ y → X g nL tgt lv st ws k n) (kf : ¬ x ≤ y → X g nL (pc + 1 + 3) lv st ws k n) : X g nL pc lv (.long y :: .long x :: st) ws k n := by
  refine x_lcmp G dg (x_if_le G dg2 ht (fun hh => kt ?_) (fun hh => kf ?_)) <;> simpa only [lg_cmp_le] using hh
theorem x_get (G : XO g own cc nL d mc ms) {ref C : String} {T : u_T} {N ci i a : Nat} {v : Value} {fs : List Value} (hin : ∀ w ∈ u_ws C T N, w ∈ lw_all) (q0 : Nat) (he : ws[q0]? = some (a, .inr (ci, fs))) (hc : xCl[ci]? = some (C, T, N)) (j : Nat) (hj : j < N) (hq : Cond.fieldLink own i ref (T j).2.1 (T j).2.2.1 ∈ lw_all) (hsame : ∀ x, (xs g).fieldFound? (T j).1 (T j).2.1 (T j).2.2.1 = some x → (xs g).fieldFound? ref (T j).2.1 (T j).2.2.1 = some x) (hv : fs[j]? = some v) (dg : decode cc pc = .ok (.getfield i, 3)) (kk : X g nL (pc + 3) lv (v :: st) ws k n) : X g nL pc lv (.ref a :: st) ws k n := fun hD H locs ls hl hP hS => va_get G.exec G.code G.hts hin G.cls G.K hP q0 he hc j hj (G.hts _ hq) hsame hv dg (kk hD H locs ls hl hP hS)
theorem x_put (G : XO g own cc nL d mc ms) {ref C : String} {T : u_T} {N ci i a : Nat} {v : Value} {fs : List Value} (hin : ∀ w ∈ u_ws C T N, w ∈ lw_all) (ty0 : Nat → FieldType) (hty : ∀ k, k < N → parseFieldDescriptor (T k).2.2.1 = some (ty0 k)) (hnm : ∀ a, a < N → ∀ b, b < N → a ≠ b → (T a).2.1 ≠ (T b).2.1) (q0 : Nat) (he : ws[q0]? = some (a, .inr (ci, fs))) (hc : xCl[ci]? = some (C, T, N)) (j : Nat) (hj : j < N) (hq : Cond.fieldLink own i ref (T j).2.1 (T j).2.2.1 ∈ lw_all) (hsame : ∀ x, (xs g).fieldFound? (T j).1 (T j).2.1 (T j).2.2.1 = some x → (xs g).fieldFound? ref (T j).2.1 (T j).2.2.1 = some x) (hfin : (T j).2.2.2 = false) (hn : narrow (ty0 j) v = v) (hfit : fits (ty0 j) v = true) (hl2 : j < fs.length) (hw : ws.set q0 (a, .inr (ci, fs.set j v)) = ws') (dg : decode cc pc = .ok (.putfield i, 3)) (kk : X g nL (pc + 3) lv st ws' k n) : X g nL pc lv (v :: .ref a :: st) ws k n := by
  subst hw
  exact fun hD H locs ls hl hP hS => va_put G.exec G.code G.hts hin ty0 hty hnm G.cls G.K hP hD hS q0 he hc j hj (G.hts _ hq) hsame hfin (hty j hj) hn hfit hl2 dg (fun H1 locs1 hP1 hD1 hS1 => kk hD1 H1 locs1 ls hl hP1 hS1)
theorem x_putF (G : XO g own cc nL d mc ms) (hini : (xh g).name = "<init>") {ref C : String} {T : u_T} {N ci i a : Nat} {v : Value} {fs : List Value} (hin : ∀ w ∈ u_ws C T N, w ∈ lw_all) (ty0 : Nat → FieldType) (hty : ∀ k, k < N → parseFieldDescriptor (T k).2.2.1 = some (ty0 k)) (hnm : ∀ a, a < N → ∀ b, b < N → a ≠ b → (T a).2.1 ≠ (T b).2.1) (q0 : Nat) (he : ws[q0]? = some (a, .inr (ci, fs))) (hc : xCl[ci]? = some (C, T, N)) (j : Nat) (hj : j < N) (hq : Cond.fieldLink own i ref (T j).2.1 (T j).2.2.1 ∈ lw_all) (hsame : ∀ x, (xs g).fieldFound? (T j).1 (T j).2.1 (T j).2.2.1 = some x → (xs g).fieldFound? ref (T j).2.1 (T j).2.2.1 = some x) (hfin : (T j).2.2.2 = true) (hdecl : (T j).1 = own) (hn : narrow (ty0 j) v = v) (hfit : fits (ty0 j) v = true) (hl2 : j < fs.length) (hw : ws.set q0 (a, .inr (ci, fs.set j v)) = ws') (dg : decode cc pc = .ok (.putfield i, 3)) (kk : X g nL (pc + 3) lv st ws' k n) : X g nL pc lv (v :: .ref a :: st) ws k n := by
  subst hw
  exact fun hD H locs ls hl hP hS => va_putF G.exec G.code G.hts hin ty0 hty hnm G.cls G.K hP hD hS q0 he hc j hj (G.hts _ hq) hsame hfin hini hdecl (hty j hj) hn hfit hl2 dg (fun H1 locs1 hP1 hD1 hS1 => kk hD1 H1 locs1 ls hl hP1 hS1)
theorem x_iald (G : XO g own cc nL d mc ms) {a N : Nat} {f : Nat → Int32} {i : Int32} (q0 : Nat) (ha : ws[q0]? = some (a, .inl (xT g 2, N, .inl f))) (hin : vp_in i N) (dg : decode cc pc = .ok (.iaload, 1)) (kk : X g nL (pc + 1) lv (.int (f i.toNatClampNeg) :: st) ws k n) : X g nL pc lv (.int i :: .ref a :: st) ws k n := fun hD H locs ls hl hP hS => va_iald G.exec G.code G.K hP q0 2 ha rfl hin dg (kk hD H locs ls hl hP hS)
theorem x_iast (G : XO g own cc nL d mc ms) {a N : Nat} {f : Nat → Int32} {i : Int32} {x : Int32} (q0 : Nat) (ha : ws[q0]? = some (a, .inl (xT g 2, N, .inl f))) (hin : vp_in i N) (hw : ws.set q0 (a, .inl (xT g 2, N, .inl (upd f i.toNatClampNeg x))) = ws') (dg : decode cc pc = .ok (.iastore, 1)) (kk : X g nL (pc + 1) lv st ws' k n) : X g nL pc lv (.int x :: .int i :: .ref a :: st) ws k n := by
  subst hw
  exact fun hD H locs ls hl hP hS => va_iast G.exec G.code G.K hP hD hS q0 2 ha rfl hin dg (fun H1 locs1 hP1 hD1 hS1 => kk hD1 H1 locs1 ls hl hP1 hS1)
theorem x_bald (G : XO g own cc nL d mc ms) {a N : Nat} {f : Nat → Int32} {i : Int32} (q0 : Nat) (ha : ws[q0]? = some (a, .inl (xT g 1, N, .inl f))) (hin : vp_in i N) (dg : decode cc pc = .ok (.baload, 1)) (kk : X g nL (pc + 1) lv (.int (f i.toNatClampNeg) :: st) ws k n) : X g nL pc lv (.int i :: .ref a :: st) ws k n := fun hD H locs ls hl hP hS => va_bald G.exec G.code G.K hP q0 1 ha rfl hin dg (kk hD H locs ls hl hP hS)
theorem x_bast (G : XO g own cc nL d mc ms) {a N : Nat} {f : Nat → Int32} {i : Int32} {x : Int32} (q0 : Nat) (ha : ws[q0]? = some (a, .inl (xT g 1, N, .inl f))) (hin : vp_in i N) (hw : ws.set q0 (a, .inl (xT g 1, N, .inl (upd f i.toNatClampNeg (vp_nar .byte x)))) = ws') (dg : decode cc pc = .ok (.bastore, 1)) (kk : X g nL (pc + 1) lv st ws' k n) : X g nL pc lv (.int x :: .int i :: .ref a :: st) ws k n := by
  subst hw
  exact fun hD H locs ls hl hP hS => va_bast G.exec G.code G.K hP hD hS q0 1 ha rfl hin dg (fun H1 locs1 hP1 hD1 hS1 => kk hD1 H1 locs1 ls hl hP1 hS1)
theorem x_zald (G : XO g own cc nL d mc ms) {a N : Nat} {f : Nat → Int32} {i : Int32} (q0 : Nat) (ha : ws[q0]? = some (a, .inl (xT g 0, N, .inl f))) (hin : vp_in i N) (dg : decode cc pc = .ok (.baload, 1)) (kk : X g nL (pc + 1) lv (.int (f i.toNatClampNeg) :: st) ws k n) : X g nL pc lv (.int i :: .ref a :: st) ws k n := fun hD H locs ls hl hP hS => va_zald G.exec G.code G.K hP q0 0 ha rfl hin dg (kk hD H locs ls hl hP hS)
theorem x_zast (G : XO g own cc nL d mc ms) {a N : Nat} {f : Nat → Int32} {i : Int32} {x : Int32} (q0 : Nat) (ha : ws[q0]? = some (a, .inl (xT g 0, N, .inl f))) (hin : vp_in i N) (hw : ws.set q0 (a, .inl (xT g 0, N, .inl (upd f i.toNatClampNeg (vp_nar .boolean x)))) = ws') (dg : decode cc pc = .ok (.bastore, 1)) (kk : X g nL (pc + 1) lv st ws' k n) : X g nL pc lv (.int x :: .int i :: .ref a :: st) ws k n := by
  subst hw
  exact fun hD H locs ls hl hP hS => va_zast G.exec G.code G.K hP hD hS q0 0 ha rfl hin dg (fun H1 locs1 hP1 hD1 hS1 => kk hD1 H1 locs1 ls hl hP1 hS1)
theorem x_lald (G : XO g own cc nL d mc ms) {a N : Nat} {f : Nat → Int64} {i : Int32} (q0 : Nat) (ha : ws[q0]? = some (a, .inl (xT g 3, N, .inr (.inl f)))) (hin : vp_in i N) (dg : decode cc pc = .ok (.laload, 1)) (kk : X g nL (pc + 1) lv (.long (f i.toNatClampNeg) :: st) ws k n) : X g nL pc lv (.int i :: .ref a :: st) ws k n := fun hD H locs ls hl hP hS => va_lald G.exec G.code G.K hP q0 3 ha rfl hin dg (kk hD H locs ls hl hP hS)
theorem x_last (G : XO g own cc nL d mc ms) {a N : Nat} {f : Nat → Int64} {i : Int32} {x : Int64} (q0 : Nat) (ha : ws[q0]? = some (a, .inl (xT g 3, N, .inr (.inl f)))) (hin : vp_in i N) (hw : ws.set q0 (a, .inl (xT g 3, N, .inr (.inl (vp_updL f i.toNatClampNeg x)))) = ws') (dg : decode cc pc = .ok (.lastore, 1)) (kk : X g nL (pc + 1) lv st ws' k n) : X g nL pc lv (.long x :: .int i :: .ref a :: st) ws k n := by
  subst hw
  exact fun hD H locs ls hl hP hS => va_last G.exec G.code G.K hP hD hS q0 3 ha rfl hin dg (fun H1 locs1 hP1 hD1 hS1 => kk hD1 H1 locs1 ls hl hP1 hS1)
theorem x_fald (G : XO g own cc nL d mc ms) {a N : Nat} {f : Nat → UInt32} {i : Int32} (q0 : Nat) (ha : ws[q0]? = some (a, .inl (xT g 4, N, .inr (.inr (.inl f))))) (hin : vp_in i N) (dg : decode cc pc = .ok (.faload, 1)) (kk : X g nL (pc + 1) lv (.float (f i.toNatClampNeg) :: st) ws k n) : X g nL pc lv (.int i :: .ref a :: st) ws k n := fun hD H locs ls hl hP hS => va_fald G.exec G.code G.K hP q0 4 ha rfl hin dg (kk hD H locs ls hl hP hS)
theorem x_fast (G : XO g own cc nL d mc ms) {a N : Nat} {f : Nat → UInt32} {i : Int32} {x : UInt32} (q0 : Nat) (ha : ws[q0]? = some (a, .inl (xT g 4, N, .inr (.inr (.inl f))))) (hin : vp_in i N) (hw : ws.set q0 (a, .inl (xT g 4, N, .inr (.inr (.inl (vf_upd f i.toNatClampNeg x))))) = ws') (dg : decode cc pc = .ok (.fastore, 1)) (kk : X g nL (pc + 1) lv st ws' k n) : X g nL pc lv (.float x :: .int i :: .ref a :: st) ws k n := by
  subst hw
  exact fun hD H locs ls hl hP hS => va_fast G.exec G.code G.K hP hD hS q0 4 ha rfl hin dg (fun H1 locs1 hP1 hD1 hS1 => kk hD1 H1 locs1 ls hl hP1 hS1)
theorem x_dald (G : XO g own cc nL d mc ms) {a N : Nat} {f : Nat → UInt64} {i : Int32} (q0 : Nat) (ha : ws[q0]? = some (a, .inl (xT g 5, N, .inr (.inr (.inr (.inl f)))))) (hin : vp_in i N) (dg : decode cc pc = .ok (.daload, 1)) (kk : X g nL (pc + 1) lv (.double (f i.toNatClampNeg) :: st) ws k n) : X g nL pc lv (.int i :: .ref a :: st) ws k n := fun hD H locs ls hl hP hS => va_dald G.exec G.code G.K hP q0 5 ha rfl hin dg (kk hD H locs ls hl hP hS)
theorem x_dast (G : XO g own cc nL d mc ms) {a N : Nat} {f : Nat → UInt64} {i : Int32} {x : UInt64} (q0 : Nat) (ha : ws[q0]? = some (a, .inl (xT g 5, N, .inr (.inr (.inr (.inl f)))))) (hin : vp_in i N) (hw : ws.set q0 (a, .inl (xT g 5, N, .inr (.inr (.inr (.inl (vf_upd f i.toNatClampNeg x)))))) = ws') (dg : decode cc pc = .ok (.dastore, 1)) (kk : X g nL (pc + 1) lv st ws' k n) : X g nL pc lv (.double x :: .int i :: .ref a :: st) ws k n := by
  subst hw
  exact fun hD H locs ls hl hP hS => va_dast G.exec G.code G.K hP hD hS q0 5 ha rfl hin dg (fun H1 locs1 hP1 hD1 hS1 => kk hD1 H1 locs1 ls hl hP1 hS1)
theorem x_alen (G : XO g own cc nL d mc ms) {a N : Nat} {x : (Nat → Int32) ⊕ (Nat → Int64) ⊕ (Nat → UInt32) ⊕ (Nat → UInt64) ⊕ (Nat → Option Nat)} (q0 t0 : Nat) {cA : ClassId} {ty : FieldType} (ha : ws[q0]? = some (a, .inl (cA, N, x))) (ht : (xTy (xT g))[t0]? = some (cA, ty)) {v : Int32} (hv : Int32.ofNat N = v) (dg : decode cc pc = .ok (.arraylength, 1)) (kk : X g nL (pc + 1) lv (.int v :: st) ws k n) : X g nL pc lv (.ref a :: st) ws k n := fun hD H locs ls hl hP hS => va_alen G.exec G.code G.K hP q0 t0 ha ht hv dg (kk hD H locs ls hl hP hS)
end
section
def xPc (D : va_G) (ta : Nat → ClassId) (av : List Value) (wc : va_W) (sz : Nat) : Array Value → State → Prop := va_Pc av (fun U => U.heap.size = sz ∧ va_P D xCl wc U.heap ∧ XE D ta (va_A wc sz) U ∧ va_D (fun _ => True) wc)
def xB (D : va_G) {S : Type} (wout : S → va_W) (A : Nat → Prop) (u : S) (t : State) : Prop := va_P D xCl (wout u) t.heap ∧ va_D A (wout u)
theorem xPc_blind {D : va_G} {ta : Nat → ClassId} {av : List Value} {wc : va_W} {sz : Nat} : FrameBlind (xPc D ta av wc sz) := fun _ _ _ _ q => ⟨q.1, q.2.1, q.2.2.1, q.2.2.2.1.blind, q.2.2.2.2⟩
theorem xPc_at {g : XG} {own : String} {cc : ByteArray} {nL d mc ms : Nat} (G : XO g own cc nL d mc ms) {ws wc wr : va_W} {av : List Value} {H : Heap} {locs : List Loc} (hsub : XSub ws (wr ++ wc)) (hD : va_D (xA g) ws) (hP : va_P (xD g) xCl ws H) (hS : va_S (xA g) (xs g).heap H locs) : ∀ U : State, U.heap = H → (xs g).WarmedH U.vm → xPc (xD g) (xT g) av wc H.size av.toArray U := by
  intro U hU hW
  have hP1 : va_P (xD g) xCl wc H := va_P.ofMem fun q hq => hP.mem (hsub.1 q (List.mem_append_right _ hq))
  have hD2 := hsub.2 _ hD
  have hD1 : va_D (xA g) wc := by
    rw [va_D.iff] at hD2 ⊢
    rw [List.map_append] at hD2
    exact ⟨(List.nodup_append.mp hD2.1).2.1, fun q hq => hD2.2 q (List.mem_append_right _ hq)⟩
  refine ⟨rfl, by rw [hU], by rw [hU]; exact hP1, ?_, hD1.weaken fun _ _ _ _ => trivial⟩
  refine G.E.to hW (fun a ha hn => by rw [hU]; exact hS.2.1 a ha hn) (fun q hq => ?_)
  rcases hq with ⟨i, e, hi⟩ | hq
  · exact hD1.2 i (q, e) hi
  · exact G.A q (Nat.le_trans hS.1 hq)
theorem x_freeA {g : XG} {own : String} {cc : ByteArray} {nL d mc ms : Nat} (G : XO g own cc nL d mc ms) {ws wc wr : va_W} {H : Heap} {locs : List Loc} (hsub : XSub ws (wr ++ wc)) (hD : va_D (xA g) ws) (hS : va_S (xA g) (xs g).heap H locs) : ∀ q, va_A wc H.size q → xA g q := by
  intro q h
  have hD2 := hsub.2 _ hD
  rcases h with ⟨i, e, h⟩ | h
  · exact (va_D.iff.mp hD2).2 (q, e) (List.mem_append_right _ (List.mem_of_getElem? h))
  · exact G.A q (Nat.le_trans hS.1 h)
theorem x_join {g : XG} {own : String} {cc : ByteArray} {nL d mc ms : Nat} (G : XO g own cc nL d mc ms) {ws wc wr w1 : va_W} {H H1 : Heap} {locs : List Loc} (hsub : XSub ws (wr ++ wc)) (hD : va_D (xA g) ws) (hP : va_P (xD g) xCl ws H) (hS : va_S (xA g) (xs g).heap H locs) (hk : ∀ q : Nat, q < H.size → ¬ va_A wc H.size q → H1[q]? = H[q]?) (hP1 : va_P (xD g) xCl w1 H1) (hD1 : va_D (va_A wc H.size) w1) : va_P (xD g) xCl (wr ++ w1) H1 ∧ va_D (xA g) (wr ++ w1) := by
  have hD2 := hsub.2 _ hD
  have hPr : va_P (xD g) xCl wr H := va_P.ofMem fun q hq => hP.mem (hsub.1 q (List.mem_append_left _ hq))
  have apart : ∀ q ∈ wr, q.1 < H.size ∧ ¬ va_A wc H.size q.1 := by
    intro q hq
    have hl := (hPr.mem hq).lt
    refine ⟨hl, fun h => ?_⟩
    rcases h with ⟨i, e, h⟩ | h
    · have h3 := (va_D.iff.mp hD2).1
      rw [List.map_append] at h3
      exact (List.nodup_append.mp h3).2.2 q.1 (List.mem_map_of_mem hq) q.1 (List.mem_map.mpr ⟨(q.1, e), List.mem_of_getElem? h, rfl⟩) rfl
    · omega
  refine ⟨va_P.ofMem fun q hq => ?_, ?_⟩
  · rcases List.mem_append.mp hq with h | h
    · exact (hPr.mem h).kept (hk q.1 (apart q h).1 (apart q h).2)
    · exact hP1.mem h
  · rw [va_D.iff] at hD2 ⊢
    rw [va_D.iff] at hD1
    rw [List.map_append] at hD2 ⊢
    have h3 := List.nodup_append.mp hD2.1
    refine ⟨List.nodup_append.mpr ⟨h3.1, hD1.1, fun a ha b hb hab => ?_⟩, fun q hq => ?_⟩
    · obtain ⟨q, hq, rfl⟩ := List.mem_map.mp ha
      obtain ⟨q2, hq2, rfl⟩ := List.mem_map.mp hb
      exact (apart q hq).2 (by rw [hab]; exact hD1.2 q2 hq2)
    · rcases List.mem_append.mp hq with h | h
      · exact hD2.2 q (List.mem_append_left _ h)
      · exact x_freeA G hsub hD hS q.1 (hD1.2 q h)
/-- a contract: from the cells wc to the cells 'wout u', the answer and u as 'post' says -/
def SMi (l : Launch) (D : va_G) (ta : Nat → ClassId) (y : MethodName) (cc : ByteArray) (nL : Nat) (ret : FieldType) (d : Nat) (av : List Value) (wc : va_W) {S : Type} (wout : S → va_W) (mc ms : Nat) (post : Int32 → S → Prop) : Prop := ∀ sz : Nat, Met l y (ws_ y cc nL (some ret)) (xR d mc ms) (xPc D ta av wc sz) (va_Qi post (xB D wout (va_A wc sz)) (va_A wc sz)) mc ms (va_A wc sz)
/-- the end that such a contract asks of a frame -/
def XQi (g : XG) (ret : FieldType) (mc ms : Nat) {S : Type} (wout : S → va_W) (post : Int32 → S → Prop) : Prop := (xh g).sig.returnType = some ret ∧ xq g = MQ (xb g) (va_Qi post (xB (xD g) wout (xA g)) (xA g)) (xa g) (xs g) mc ms (xA g)
/-- a contract: from the cells wc to the cells 'wout u', the answer and u as 'post' says -/
def SMl (l : Launch) (D : va_G) (ta : Nat → ClassId) (y : MethodName) (cc : ByteArray) (nL : Nat) (ret : FieldType) (d : Nat) (av : List Value) (wc : va_W) {S : Type} (wout : S → va_W) (mc ms : Nat) (post : Int64 → S → Prop) : Prop := ∀ sz : Nat, Met l y (ws_ y cc nL (some ret)) (xR d mc ms) (xPc D ta av wc sz) (va_Ql post (xB D wout (va_A wc sz)) (va_A wc sz)) mc ms (va_A wc sz)
/-- the end that such a contract asks of a frame -/
def XQl (g : XG) (ret : FieldType) (mc ms : Nat) {S : Type} (wout : S → va_W) (post : Int64 → S → Prop) : Prop := (xh g).sig.returnType = some ret ∧ xq g = MQ (xb g) (va_Ql post (xB (xD g) wout (xA g)) (xA g)) (xa g) (xs g) mc ms (xA g)
/-- a contract: from the cells wc to the cells 'wout u', the answer and u as 'post' says -/
def SMf (l : Launch) (D : va_G) (ta : Nat → ClassId) (y : MethodName) (cc : ByteArray) (nL : Nat) (ret : FieldType) (d : Nat) (av : List Value) (wc : va_W) {S : Type} (wout : S → va_W) (mc ms : Nat) (post : UInt32 → S → Prop) : Prop := ∀ sz : Nat, Met l y (ws_ y cc nL (some ret)) (xR d mc ms) (xPc D ta av wc sz) (va_Qf post (xB D wout (va_A wc sz)) (va_A wc sz)) mc ms (va_A wc sz)
/-- the end that such a contract asks of a frame -/
def XQf (g : XG) (ret : FieldType) (mc ms : Nat) {S : Type} (wout : S → va_W) (post : UInt32 → S → Prop) : Prop := (xh g).sig.returnType = some ret ∧ xq g = MQ (xb g) (va_Qf post (xB (xD g) wout (xA g)) (xA g)) (xa g) (xs g) mc ms (xA g)
/-- a contract: from the cells wc to the cells 'wout u', the answer and u as 'post' says -/
def SMd (l : Launch) (D : va_G) (ta : Nat → ClassId) (y : MethodName) (cc : ByteArray) (nL : Nat) (ret : FieldType) (d : Nat) (av : List Value) (wc : va_W) {S : Type} (wout : S → va_W) (mc ms : Nat) (post : UInt64 → S → Prop) : Prop := ∀ sz : Nat, Met l y (ws_ y cc nL (some ret)) (xR d mc ms) (xPc D ta av wc sz) (va_Qd post (xB D wout (va_A wc sz)) (va_A wc sz)) mc ms (va_A wc sz)
/-- the end that such a contract asks of a frame -/
def XQd (g : XG) (ret : FieldType) (mc ms : Nat) {S : Type} (wout : S → va_W) (post : UInt64 → S → Prop) : Prop := (xh g).sig.returnType = some ret ∧ xq g = MQ (xb g) (va_Qd post (xB (xD g) wout (xA g)) (xA g)) (xa g) (xs g) mc ms (xA g)
/-- a contract: from the cells wc to the cells 'wout u', the answer and u as 'post' says -/
def SMq (l : Launch) (D : va_G) (ta : Nat → ClassId) (y : MethodName) (cc : ByteArray) (nL : Nat) (ret : FieldType) (d : Nat) (av : List Value) (wc : va_W) {S : Type} (wout : S → va_W) (mc ms : Nat) (post : Option Nat → S → Prop) : Prop := ∀ sz : Nat, Met l y (ws_ y cc nL (some ret)) (xR d mc ms) (xPc D ta av wc sz) (va_Qq post (xB D wout (va_A wc sz)) (va_A wc sz)) mc ms (va_A wc sz)
/-- the end that such a contract asks of a frame -/
def XQq (g : XG) (ret : FieldType) (mc ms : Nat) {S : Type} (wout : S → va_W) (post : Option Nat → S → Prop) : Prop := (xh g).sig.returnType = some ret ∧ xq g = MQ (xb g) (va_Qq post (xB (xD g) wout (xA g)) (xA g)) (xa g) (xs g) mc ms (xA g)
def SMv (l : Launch) (D : va_G) (ta : Nat → ClassId) (y : MethodName) (cc : ByteArray) (nL : Nat) (d : Nat) (av : List Value) (wc : va_W) {S : Type} (wout : S → va_W) (mc ms : Nat) (post : S → Prop) : Prop := ∀ sz : Nat, Met l y (ws_ y cc nL none) (xR d mc ms) (xPc D ta av wc sz) (va_Qv post (xB D wout (va_A wc sz)) (va_A wc sz)) mc ms (va_A wc sz)
def XQv (g : XG) (mc ms : Nat) {S : Type} (wout : S → va_W) (post : S → Prop) : Prop := (xh g).sig.returnType = none ∧ xq g = MQ (xb g) (va_Qv post (xB (xD g) wout (xA g)) (xA g)) (xa g) (xs g) mc ms (xA g)
theorem x_starti {l : Launch} {D : va_G} {ta : Nat → ClassId} {y : MethodName} {cc : ByteArray} {nL : Nat} {ret : FieldType} {d : Nat} {av : List Value} {wc : va_W} {S : Type} {wout : S → va_W} {mc ms : Nat} {post : Int32 → S → Prop} (hlt : l.stackTraces = false) (hy : plainFor y = true) (hav : (lg_sl av).length ≤ nL) (body : ∀ g : XG, XO g y.cls cc nL d mc ms → xl g = l → xD g = D → xT g = ta → XQi g ret mc ms wout post → X g nL 0 (lv_args 0 av) [] wc 0 0) : SMi l D ta y cc nL ret d av wc wout mc ms post := by
  intro sz
  refine va_MetF (cc := cc) (maxL := nL) (ret := some ret) hy rfl ?_
  intro p e s m args below meth c s₁ B hml hv
  obtain ⟨rfl, hsz, hP, hE, hD0⟩ := hv
  have hl := lv_entry av hav
  rw [lg_entry_eq]
  generalize (lg_sl av ++ List.replicate (nL - (lg_sl av).length) Slot.unset).toArray = ls at hl ⊢
  subst hsz
  have hts := atoms_spec (ws := ws_ y cc nL (some ret)) B.pre
  exact body (p, l, e, xR d mc ms, s, m, av.toArray, below, meth, c, _, va_A wc s.heap.size, D, ta) ⟨B.exec, B.bytes, hml, findClass_of_methodNamed B.named, fun w h => hts w (List.mem_cons_of_mem _ h), rfl, B.notSynchronized, hE, fun q h => Or.inr h, hlt⟩ rfl rfl rfl ⟨B.returns, rfl⟩ (hD0.self) s.heap [] ls hl hP va_S.rf
theorem x_startl {l : Launch} {D : va_G} {ta : Nat → ClassId} {y : MethodName} {cc : ByteArray} {nL : Nat} {ret : FieldType} {d : Nat} {av : List Value} {wc : va_W} {S : Type} {wout : S → va_W} {mc ms : Nat} {post : Int64 → S → Prop} (hlt : l.stackTraces = false) (hy : plainFor y = true) (hav : (lg_sl av).length ≤ nL) (body : ∀ g : XG, XO g y.cls cc nL d mc ms → xl g = l → xD g = D → xT g = ta → XQl g ret mc ms wout post → X g nL 0 (lv_args 0 av) [] wc 0 0) : SMl l D ta y cc nL ret d av wc wout mc ms post := by
  intro sz
  refine va_MetF (cc := cc) (maxL := nL) (ret := some ret) hy rfl ?_
  intro p e s m args below meth c s₁ B hml hv
  obtain ⟨rfl, hsz, hP, hE, hD0⟩ := hv
  have hl := lv_entry av hav
  rw [lg_entry_eq]
  generalize (lg_sl av ++ List.replicate (nL - (lg_sl av).length) Slot.unset).toArray = ls at hl ⊢
  subst hsz
  have hts := atoms_spec (ws := ws_ y cc nL (some ret)) B.pre
  exact body (p, l, e, xR d mc ms, s, m, av.toArray, below, meth, c, _, va_A wc s.heap.size, D, ta) ⟨B.exec, B.bytes, hml, findClass_of_methodNamed B.named, fun w h => hts w (List.mem_cons_of_mem _ h), rfl, B.notSynchronized, hE, fun q h => Or.inr h, hlt⟩ rfl rfl rfl ⟨B.returns, rfl⟩ (hD0.self) s.heap [] ls hl hP va_S.rf
theorem x_startf {l : Launch} {D : va_G} {ta : Nat → ClassId} {y : MethodName} {cc : ByteArray} {nL : Nat} {ret : FieldType} {d : Nat} {av : List Value} {wc : va_W} {S : Type} {wout : S → va_W} {mc ms : Nat} {post : UInt32 → S → Prop} (hlt : l.stackTraces = false) (hy : plainFor y = true) (hav : (lg_sl av).length ≤ nL) (body : ∀ g : XG, XO g y.cls cc nL d mc ms → xl g = l → xD g = D → xT g = ta → XQf g ret mc ms wout post → X g nL 0 (lv_args 0 av) [] wc 0 0) : SMf l D ta y cc nL ret d av wc wout mc ms post := by
  intro sz
  refine va_MetF (cc := cc) (maxL := nL) (ret := some ret) hy rfl ?_
  intro p e s m args below meth c s₁ B hml hv
  obtain ⟨rfl, hsz, hP, hE, hD0⟩ := hv
  have hl := lv_entry av hav
  rw [lg_entry_eq]
  generalize (lg_sl av ++ List.replicate (nL - (lg_sl av).length) Slot.unset).toArray = ls at hl ⊢
  subst hsz
  have hts := atoms_spec (ws := ws_ y cc nL (some ret)) B.pre
  exact body (p, l, e, xR d mc ms, s, m, av.toArray, below, meth, c, _, va_A wc s.heap.size, D, ta) ⟨B.exec, B.bytes, hml, findClass_of_methodNamed B.named, fun w h => hts w (List.mem_cons_of_mem _ h), rfl, B.notSynchronized, hE, fun q h => Or.inr h, hlt⟩ rfl rfl rfl ⟨B.returns, rfl⟩ (hD0.self) s.heap [] ls hl hP va_S.rf
theorem x_startd {l : Launch} {D : va_G} {ta : Nat → ClassId} {y : MethodName} {cc : ByteArray} {nL : Nat} {ret : FieldType} {d : Nat} {av : List Value} {wc : va_W} {S : Type} {wout : S → va_W} {mc ms : Nat} {post : UInt64 → S → Prop} (hlt : l.stackTraces = false) (hy : plainFor y = true) (hav : (lg_sl av).length ≤ nL) (body : ∀ g : XG, XO g y.cls cc nL d mc ms → xl g = l → xD g = D → xT g = ta → XQd g ret mc ms wout post → X g nL 0 (lv_args 0 av) [] wc 0 0) : SMd l D ta y cc nL ret d av wc wout mc ms post := by
  intro sz
  refine va_MetF (cc := cc) (maxL := nL) (ret := some ret) hy rfl ?_
  intro p e s m args below meth c s₁ B hml hv
  obtain ⟨rfl, hsz, hP, hE, hD0⟩ := hv
  have hl := lv_entry av hav
  rw [lg_entry_eq]
  generalize (lg_sl av ++ List.replicate (nL - (lg_sl av).length) Slot.unset).toArray = ls at hl ⊢
  subst hsz
  have hts := atoms_spec (ws := ws_ y cc nL (some ret)) B.pre
  exact body (p, l, e, xR d mc ms, s, m, av.toArray, below, meth, c, _, va_A wc s.heap.size, D, ta) ⟨B.exec, B.bytes, hml, findClass_of_methodNamed B.named, fun w h => hts w (List.mem_cons_of_mem _ h), rfl, B.notSynchronized, hE, fun q h => Or.inr h, hlt⟩ rfl rfl rfl ⟨B.returns, rfl⟩ (hD0.self) s.heap [] ls hl hP va_S.rf
theorem x_startq {l : Launch} {D : va_G} {ta : Nat → ClassId} {y : MethodName} {cc : ByteArray} {nL : Nat} {ret : FieldType} {d : Nat} {av : List Value} {wc : va_W} {S : Type} {wout : S → va_W} {mc ms : Nat} {post : Option Nat → S → Prop} (hlt : l.stackTraces = false) (hy : plainFor y = true) (hav : (lg_sl av).length ≤ nL) (body : ∀ g : XG, XO g y.cls cc nL d mc ms → xl g = l → xD g = D → xT g = ta → XQq g ret mc ms wout post → X g nL 0 (lv_args 0 av) [] wc 0 0) : SMq l D ta y cc nL ret d av wc wout mc ms post := by
  intro sz
  refine va_MetF (cc := cc) (maxL := nL) (ret := some ret) hy rfl ?_
  intro p e s m args below meth c s₁ B hml hv
  obtain ⟨rfl, hsz, hP, hE, hD0⟩ := hv
  have hl := lv_entry av hav
  rw [lg_entry_eq]
  generalize (lg_sl av ++ List.replicate (nL - (lg_sl av).length) Slot.unset).toArray = ls at hl ⊢
  subst hsz
  have hts := atoms_spec (ws := ws_ y cc nL (some ret)) B.pre
  exact body (p, l, e, xR d mc ms, s, m, av.toArray, below, meth, c, _, va_A wc s.heap.size, D, ta) ⟨B.exec, B.bytes, hml, findClass_of_methodNamed B.named, fun w h => hts w (List.mem_cons_of_mem _ h), rfl, B.notSynchronized, hE, fun q h => Or.inr h, hlt⟩ rfl rfl rfl ⟨B.returns, rfl⟩ (hD0.self) s.heap [] ls hl hP va_S.rf
theorem x_startv {l : Launch} {D : va_G} {ta : Nat → ClassId} {y : MethodName} {cc : ByteArray} {nL : Nat} {d : Nat} {av : List Value} {wc : va_W} {S : Type} {wout : S → va_W} {mc ms : Nat} {post : S → Prop} (hlt : l.stackTraces = false) (hy : plainFor y = true) (hav : (lg_sl av).length ≤ nL) (body : ∀ g : XG, XO g y.cls cc nL d mc ms → xl g = l → xD g = D → xT g = ta → XQv g mc ms wout post → X g nL 0 (lv_args 0 av) [] wc 0 0) : SMv l D ta y cc nL d av wc wout mc ms post := by
  intro sz
  refine va_MetF (cc := cc) (maxL := nL) (ret := none) hy rfl ?_
  intro p e s m args below meth c s₁ B hml hv
  obtain ⟨rfl, hsz, hP, hE, hD0⟩ := hv
  have hl := lv_entry av hav
  rw [lg_entry_eq]
  generalize (lg_sl av ++ List.replicate (nL - (lg_sl av).length) Slot.unset).toArray = ls at hl ⊢
  subst hsz
  have hts := atoms_spec (ws := ws_ y cc nL none) B.pre
  exact body (p, l, e, xR d mc ms, s, m, av.toArray, below, meth, c, _, va_A wc s.heap.size, D, ta) ⟨B.exec, B.bytes, hml, findClass_of_methodNamed B.named, fun w h => hts w (List.mem_cons_of_mem _ h), rfl, B.notSynchronized, hE, fun q h => Or.inr h, hlt⟩ rfl rfl rfl ⟨B.returns, rfl⟩ (hD0.self) s.heap [] ls hl hP va_S.rf
/-- a maker's start: it knows its name -/
theorem x_startI {l : Launch} {D : va_G} {ta : Nat → ClassId} {y : MethodName} {cc : ByteArray} {nL : Nat} {d : Nat} {av : List Value} {wc : va_W} {S : Type} {wout : S → va_W} {mc ms : Nat} {post : S → Prop} (hlt : l.stackTraces = false) (hy : plainFor y = true) (hav : (lg_sl av).length ≤ nL) (body : ∀ g : XG, XO g y.cls cc nL d mc ms → xl g = l → xD g = D → xT g = ta → (xh g).name = y.name → XQv g mc ms wout post → X g nL 0 (lv_args 0 av) [] wc 0 0) : SMv l D ta y cc nL d av wc wout mc ms post := by
  intro sz
  refine va_MetF (cc := cc) (maxL := nL) (ret := none) hy rfl ?_
  intro p e s m args below meth c s₁ B hml hv
  obtain ⟨rfl, hsz, hP, hE, hD0⟩ := hv
  have hl := lv_entry av hav
  rw [lg_entry_eq]
  generalize (lg_sl av ++ List.replicate (nL - (lg_sl av).length) Slot.unset).toArray = ls at hl ⊢
  subst hsz
  have hts := atoms_spec (ws := ws_ y cc nL none) B.pre
  exact body (p, l, e, xR d mc ms, s, m, av.toArray, below, meth, c, _, va_A wc s.heap.size, D, ta) ⟨B.exec, B.bytes, hml, findClass_of_methodNamed B.named, fun w h => hts w (List.mem_cons_of_mem _ h), rfl, B.notSynchronized, hE, fun q h => Or.inr h, hlt⟩ rfl rfl rfl (name_of_methodNamed B.named B.method).1 ⟨B.returns, rfl⟩ (hD0.self) s.heap [] ls hl hP va_S.rf
variable {g : XG} {own : String} {cc : ByteArray} {nL d mc ms pc : Nat} {lv lv' : List (Nat × Value)} {st : List Value} {ws ws' : va_W} {k n : Nat} {S : Type} {wout : S → va_W}
theorem x_ireturn {ret : FieldType} {post : Int32 → S → Prop} {v : Int32} (G : XO g own cc nL d mc ms) (Q : XQi g ret mc ms wout post) (dg : decode cc pc = .ok (.ireturn, 1)) (hn : narrow ret (.int v) = .int v) (u : S) (hp : post v u) (hw : XSub ws (wout u)) (hk : k ≤ mc) (hs : n ≤ ms) : X g nL pc lv [.int v] ws k n := by
  refine x_mono hk hs (x_ws hw fun hD H locs ls hl hP hS => ?_)
  show W _ _ _ _ _ _ _ _ _ _ H locs mc ms (xq g) _
  rw [Q.2]
  exact W.zret G.exec G.code Q.1 hn (fun t ht hW => ⟨⟨v, u, rfl, hp, by rw [ht]; exact hP, hD⟩, hS.F ht⟩) hS.2.2 dg G.locks
theorem x_lreturn {post : Int64 → S → Prop} {v : Int64} (G : XO g own cc nL d mc ms) (Q : XQl g .long mc ms wout post) (dg : decode cc pc = .ok (.lreturn, 1)) (u : S) (hp : post v u) (hw : XSub ws (wout u)) (hk : k ≤ mc) (hs : n ≤ ms) : X g nL pc lv [.long v] ws k n := by
  refine x_mono hk hs (x_ws hw fun hD H locs ls hl hP hS => ?_)
  show W _ _ _ _ _ _ _ _ _ _ H locs mc ms (xq g) _
  rw [Q.2]
  exact W.lret G.exec G.code Q.1 (fun t ht hW => ⟨⟨v, u, rfl, hp, by rw [ht]; exact hP, hD⟩, hS.F ht⟩) hS.2.2 dg G.locks
theorem x_freturn {post : UInt32 → S → Prop} {v : UInt32} (G : XO g own cc nL d mc ms) (Q : XQf g .float mc ms wout post) (dg : decode cc pc = .ok (.freturn, 1)) (u : S) (hp : post v u) (hw : XSub ws (wout u)) (hk : k ≤ mc) (hs : n ≤ ms) : X g nL pc lv [.float v] ws k n := by
  refine x_mono hk hs (x_ws hw fun hD H locs ls hl hP hS => ?_)
  show W _ _ _ _ _ _ _ _ _ _ H locs mc ms (xq g) _
  rw [Q.2]
  exact W.fret G.exec G.code Q.1 (fun t ht hW => ⟨⟨v, u, rfl, hp, by rw [ht]; exact hP, hD⟩, hS.F ht⟩) hS.2.2 dg G.locks
theorem x_dreturn {post : UInt64 → S → Prop} {v : UInt64} (G : XO g own cc nL d mc ms) (Q : XQd g .double mc ms wout post) (dg : decode cc pc = .ok (.dreturn, 1)) (u : S) (hp : post v u) (hw : XSub ws (wout u)) (hk : k ≤ mc) (hs : n ≤ ms) : X g nL pc lv [.double v] ws k n := by
  refine x_mono hk hs (x_ws hw fun hD H locs ls hl hP hS => ?_)
  show W _ _ _ _ _ _ _ _ _ _ H locs mc ms (xq g) _
  rw [Q.2]
  exact W.dret G.exec G.code Q.1 (fun t ht hW => ⟨⟨v, u, rfl, hp, by rw [ht]; exact hP, hD⟩, hS.F ht⟩) hS.2.2 dg G.locks
theorem x_return {post : S → Prop} (G : XO g own cc nL d mc ms) (Q : XQv g mc ms wout post) (dg : decode cc pc = .ok (.return_, 1)) (u : S) (hp : post u) (hw : XSub ws (wout u)) (hk : k ≤ mc) (hs : n ≤ ms) : X g nL pc lv [] ws k n := by
  refine x_mono hk hs (x_ws hw fun hD H locs ls hl hP hS => ?_)
  show W _ _ _ _ _ _ _ _ _ _ H locs mc ms (xq g) _
  rw [Q.2]
  exact W.vret G.exec G.code Q.1 (fun t ht hW => ⟨⟨u, rfl, hp, by rw [ht]; exact hP, hD⟩, hS.F ht⟩) hS.2.2 dg G.locks
theorem x_areturn {ret : FieldType} {post : Option Nat → S → Prop} {v : Option Nat} (G : XO g own cc nL d mc ms) (Q : XQq g ret mc ms wout post) (hrt : (∃ n, ret = .object n) ∨ ∃ t, ret = .array t) (dg : decode cc pc = .ok (.areturn, 1)) (u : S) (hp : post v u) (hw : XSub ws (wout u)) (hk : k ≤ mc) (hs : n ≤ ms) : X g nL pc lv [va_rf v] ws k n := by
  refine x_mono hk hs (x_ws hw fun hD H locs ls hl hP hS => ?_)
  show W _ _ _ _ _ _ _ _ _ _ H locs mc ms (xq g) _
  rw [Q.2]
  exact W.aret G.exec G.code Q.1 hrt (by cases v with | none => exact Or.inl rfl | some a => exact Or.inr ⟨a, rfl⟩) (fun t ht hW => ⟨⟨v, u, rfl, hp, by rw [ht]; exact hP, hD⟩, hS.F ht⟩) hS.2.2 dg G.locks
/-- a call that runs: from any heap that holds the cells, the callee comes back as its contract says -/
def XRun (g : XG) (nL pc : Nat) (lv : List (Nat × Value)) (st0 rest : List Value) (ws wc : va_W) (k n mc ms : Nat) (Qc : Nat → Array Value → State → Outcome → State → Prop) : Prop := ∀ (H : Heap) (locs : List Loc) (ls : Array Slot), va_D (xA g) ws → lv_has ls nL lv → va_P (xD g) xCl ws H → va_S (xA g) (xs g).heap H locs → ∃ a : Array Value, va_Run (xp g) (xl g) (xe g) (xr g) (xs g) (xm g) (xa g) (xb g) (xh g) (xc g) H locs k n mc ms (F0 (xm g) pc ls st0) rest (Qc H.size a) (va_A wc H.size)
theorem x_calli {wc wr : va_W} {rest : List Value} {mc' ms' : Nat} {post : Int32 → S → Prop} (G : XO g own cc nL d mc ms) (hsub : XSub ws (wr ++ wc)) (hrun : XRun g nL pc lv st rest ws wc k n mc' ms' (fun sz => va_Qi post (xB (xD g) wout (va_A wc sz)) (va_A wc sz))) (kk : ∀ (r : Int32) (u : S), post r u → X g nL (pc + 3) lv (.int r :: rest) (wr ++ wout u) (k + mc') (n + ms')) : X g nL pc lv st ws k n := by
  intro hD H locs ls hl hP hS
  obtain ⟨a, hr⟩ := hrun H locs ls hD hl hP hS
  have hF := x_freeA G hsub hD hS
  refine va_calli hr hS (fun q _ h => hF q h) hF (fun r u t H1 locs1 ht hvm hp hB hz hk hS1 => ?_)
  obtain ⟨hP1, hD1⟩ := hB
  rw [ht] at hP1
  obtain ⟨hP2, hD2⟩ := x_join G hsub hD hP hS hk hP1 hD1
  exact kk r u hp hD2 H1 locs1 ls hl hP2 hS1
theorem x_calll {wc wr : va_W} {rest : List Value} {mc' ms' : Nat} {post : Int64 → S → Prop} (G : XO g own cc nL d mc ms) (hsub : XSub ws (wr ++ wc)) (hrun : XRun g nL pc lv st rest ws wc k n mc' ms' (fun sz => va_Ql post (xB (xD g) wout (va_A wc sz)) (va_A wc sz))) (kk : ∀ (r : Int64) (u : S), post r u → X g nL (pc + 3) lv (.long r :: rest) (wr ++ wout u) (k + mc') (n + ms')) : X g nL pc lv st ws k n := by
  intro hD H locs ls hl hP hS
  obtain ⟨a, hr⟩ := hrun H locs ls hD hl hP hS
  have hF := x_freeA G hsub hD hS
  refine va_calll hr hS (fun q _ h => hF q h) hF (fun r u t H1 locs1 ht hvm hp hB hz hk hS1 => ?_)
  obtain ⟨hP1, hD1⟩ := hB
  rw [ht] at hP1
  obtain ⟨hP2, hD2⟩ := x_join G hsub hD hP hS hk hP1 hD1
  exact kk r u hp hD2 H1 locs1 ls hl hP2 hS1
theorem x_callf {wc wr : va_W} {rest : List Value} {mc' ms' : Nat} {post : UInt32 → S → Prop} (G : XO g own cc nL d mc ms) (hsub : XSub ws (wr ++ wc)) (hrun : XRun g nL pc lv st rest ws wc k n mc' ms' (fun sz => va_Qf post (xB (xD g) wout (va_A wc sz)) (va_A wc sz))) (kk : ∀ (r : UInt32) (u : S), post r u → X g nL (pc + 3) lv (.float r :: rest) (wr ++ wout u) (k + mc') (n + ms')) : X g nL pc lv st ws k n := by
  intro hD H locs ls hl hP hS
  obtain ⟨a, hr⟩ := hrun H locs ls hD hl hP hS
  have hF := x_freeA G hsub hD hS
  refine va_callf hr hS (fun q _ h => hF q h) hF (fun r u t H1 locs1 ht hvm hp hB hz hk hS1 => ?_)
  obtain ⟨hP1, hD1⟩ := hB
  rw [ht] at hP1
  obtain ⟨hP2, hD2⟩ := x_join G hsub hD hP hS hk hP1 hD1
  exact kk r u hp hD2 H1 locs1 ls hl hP2 hS1
theorem x_calld {wc wr : va_W} {rest : List Value} {mc' ms' : Nat} {post : UInt64 → S → Prop} (G : XO g own cc nL d mc ms) (hsub : XSub ws (wr ++ wc)) (hrun : XRun g nL pc lv st rest ws wc k n mc' ms' (fun sz => va_Qd post (xB (xD g) wout (va_A wc sz)) (va_A wc sz))) (kk : ∀ (r : UInt64) (u : S), post r u → X g nL (pc + 3) lv (.double r :: rest) (wr ++ wout u) (k + mc') (n + ms')) : X g nL pc lv st ws k n := by
  intro hD H locs ls hl hP hS
  obtain ⟨a, hr⟩ := hrun H locs ls hD hl hP hS
  have hF := x_freeA G hsub hD hS
  refine va_calld hr hS (fun q _ h => hF q h) hF (fun r u t H1 locs1 ht hvm hp hB hz hk hS1 => ?_)
  obtain ⟨hP1, hD1⟩ := hB
  rw [ht] at hP1
  obtain ⟨hP2, hD2⟩ := x_join G hsub hD hP hS hk hP1 hD1
  exact kk r u hp hD2 H1 locs1 ls hl hP2 hS1
theorem x_callq {wc wr : va_W} {rest : List Value} {mc' ms' : Nat} {post : Option Nat → S → Prop} (G : XO g own cc nL d mc ms) (hsub : XSub ws (wr ++ wc)) (hrun : XRun g nL pc lv st rest ws wc k n mc' ms' (fun sz => va_Qq post (xB (xD g) wout (va_A wc sz)) (va_A wc sz))) (kk : ∀ (r : Option Nat) (u : S), post r u → X g nL (pc + 3) lv (va_rf r :: rest) (wr ++ wout u) (k + mc') (n + ms')) : X g nL pc lv st ws k n := by
  intro hD H locs ls hl hP hS
  obtain ⟨a, hr⟩ := hrun H locs ls hD hl hP hS
  have hF := x_freeA G hsub hD hS
  refine va_callq hr hS (fun q _ h => hF q h) hF (fun r u t H1 locs1 ht hvm hp hB hz hk hS1 => ?_)
  obtain ⟨hP1, hD1⟩ := hB
  rw [ht] at hP1
  obtain ⟨hP2, hD2⟩ := x_join G hsub hD hP hS hk hP1 hD1
  exact kk r u hp hD2 H1 locs1 ls hl hP2 hS1
theorem x_callv {wc wr : va_W} {rest : List Value} {mc' ms' : Nat} {post : S → Prop} (G : XO g own cc nL d mc ms) (hsub : XSub ws (wr ++ wc)) (hrun : XRun g nL pc lv st rest ws wc k n mc' ms' (fun sz => va_Qv post (xB (xD g) wout (va_A wc sz)) (va_A wc sz))) (kk : ∀ u : S, post u → X g nL (pc + 3) lv rest (wr ++ wout u) (k + mc') (n + ms')) : X g nL pc lv st ws k n := by
  intro hD H locs ls hl hP hS
  obtain ⟨a, hr⟩ := hrun H locs ls hD hl hP hS
  have hF := x_freeA G hsub hD hS
  refine va_callv hr hS (fun q _ h => hF q h) hF (fun u t H1 locs1 ht hvm hp hB hz hk hS1 => ?_)
  obtain ⟨hP1, hD1⟩ := hB
  rw [ht] at hP1
  obtain ⟨hP2, hD2⟩ := x_join G hsub hD hP hS hk hP1 hD1
  exact kk u hp hD2 H1 locs1 ls hl hP2 hS1
variable {y : MethodName} {bytes : ByteArray} {maxL d' mc' ms' i : Nat} {ret : Option FieldType} {wc wr : va_W} {Qc : Nat → Array Value → State → Outcome → State → Prop} {b : Nat} {As rest : List Value}
theorem x_runV (G : XO g own cc nL d mc ms) {C : String} (hsub : XSub ws (wr ++ wc)) (hM : ∀ sz, Met (xl g) y (ws_ y bytes maxL ret) (xR d' mc' ms') (xPc (xD g) (xT g) (.ref b :: As) wc sz) (Qc sz) mc' ms' (va_A wc sz)) (hV : GoodIn lw_all (wsV own i C y (ws_ y bytes maxL ret))) (hd : y.cls = C ∧ y.cls ≠ "java/lang/invoke/MethodHandle" ∧ y.cls ≠ "java/lang/invoke/VarHandle" ∧ (parseMethodDescriptor y.desc).map (fun d => d.parameters.length) = some As.length) (ci q0 : Nat) {q : vw_C} {fs : List Value} (hc : xCl[ci]? = some q) (he : ws[q0]? = some (b, .inr (ci, fs))) (hCq : q.1 = C) (hdep : d' + 1 ≤ d) (hmax : maxL ≤ 45) (hst : st = As.reverse ++ .ref b :: rest) (hcat : (rest.map fun v => v.category).sum ≤ 8) (hk : k + mc' ≤ mc) (hn : n + ms' ≤ ms) (dg : decode cc pc = .ok (.invokevirtual i, 3)) : XRun g nL pc lv st rest ws wc k n mc' ms' Qc := by
  intro H locs ls hD hl hP hS
  refine ⟨_, va_runV (As := As) (rest := rest) ⟨G.exec, G.code, G.maxL, G.cls, G.hts⟩ (hM H.size) (cwV As.length G.hts hV rfl rfl rfl hd (by rw [G.room]; exact ⟨by show 10 + d' + 1 ≤ 10 + d; omega, by show 8 + (maxL + 11) + (11000 + 64 * d') ≤ 11000 + 64 * d; omega⟩)) ⟨xPc_blind, by rw [← hCq]; exact va_recv G.K hP hc he, fun U hU hW => xPc_at G hsub hD hP hS U hU hW⟩ rfl rfl hl.1 hst (lv_room hcat) dg (by rw [G.room]; exact ⟨hk, hn⟩)⟩
theorem x_runS (G : XO g own cc nL d mc ms) (hsub : XSub ws (wr ++ wc)) (hM : ∀ sz, Met (xl g) y (ws_ y bytes maxL ret) (xR d' mc' ms') (xPc (xD g) (xT g) As wc sz) (Qc sz) mc' ms' (va_A wc sz)) (hV : GoodIn lw_all (va_wsS own i y (ws_ y bytes maxL ret))) (hd : y.cls ≠ "java/lang/invoke/MethodHandle" ∧ y.cls ≠ "java/lang/invoke/VarHandle" ∧ (parseMethodDescriptor y.desc).map (fun d => d.parameters.length) = some As.length) (hdep : d' + 1 ≤ d) (hmax : maxL ≤ 45) (hst : st = As.reverse ++ rest) (hcat : (rest.map fun v => v.category).sum ≤ 8) (hk : k + mc' ≤ mc) (hn : n + ms' ≤ ms) (dg : decode cc pc = .ok (.invokestatic i, 3)) : XRun g nL pc lv st rest ws wc k n mc' ms' Qc := by
  intro H locs ls hD hl hP hS
  refine ⟨_, va_runS (As := As) (rest := rest) ⟨G.exec, G.code, G.maxL, G.cls, G.hts⟩ (hM H.size) (va_cwS As.length G.hts hV rfl rfl rfl hd (by rw [G.room]; exact ⟨by show 10 + d' + 1 ≤ 10 + d; omega, by show 8 + (maxL + 11) + (11000 + 64 * d') ≤ 11000 + 64 * d; omega⟩)) ⟨xPc_blind, fun U hU hW => xPc_at G hsub hD hP hS U hU hW⟩ rfl rfl hl.1 hst (lv_room hcat) dg (by rw [G.room]; exact ⟨hk, hn⟩)⟩
theorem x_runI (G : XO g own cc nL d mc ms) (hsub : XSub ws (wr ++ wc)) (hM : ∀ sz, Met (xl g) y (ws_ y bytes maxL none) (xR d' mc' ms') (xPc (xD g) (xT g) (.ref b :: As) wc sz) (Qc sz) mc' ms' (va_A wc sz)) (hV : GoodIn lw_all (ws_ y bytes maxL none)) (hini : Cond.initialized y.cls ∈ lw_all) (hlk : Cond.methodLink own i y ∈ lw_all) (hin : Cond.instanceMethod y ∈ lw_all) (hy1 : y.name = "<init>") (hd : y.cls ≠ "java/lang/invoke/MethodHandle" ∧ y.cls ≠ "java/lang/invoke/VarHandle" ∧ (parseMethodDescriptor y.desc).map (fun d => d.parameters.length) = some As.length) (hdep : d' + 1 ≤ d) (hmax : maxL ≤ 45) (hst : st = As.reverse ++ .ref b :: rest) (hcat : (rest.map fun v => v.category).sum ≤ 8) (hk : k + mc' ≤ mc) (hn : n + ms' ≤ ms) (dg : decode cc pc = .ok (.invokespecial i, 3)) : XRun g nL pc lv st rest ws wc k n mc' ms' Qc := by
  intro H locs ls hD hl hP hS
  refine ⟨_, va_runI (As := As) (rest := rest) ⟨G.exec, G.code, G.maxL, G.cls, G.hts⟩ (hM H.size) (cwI As.length G.hts hV rfl rfl rfl (G.hts _ hini) (G.hts _ hlk) (G.hts _ hin) hy1 hd (by rw [G.room]; exact ⟨by show 10 + d' + 1 ≤ 10 + d; omega, by show 8 + (maxL + 11) + (11000 + 64 * d') ≤ 11000 + 64 * d; omega⟩)) ⟨xPc_blind, fun U hU hW => xPc_at G hsub hD hP hS U hU hW⟩ rfl rfl hl.1 hst (lv_room hcat) dg (by rw [G.room]; exact ⟨hk, hn⟩)⟩
end
section
variable {g : XG} {own : String} {cc : ByteArray} {nL d mc ms pc : Nat} {lv : List (Nat × Value)} {st : List Value} {ws : va_W} {k n : Nat}
theorem x_nd2l {i : Nat} {b : UInt64} (G : XO g own cc nL d mc ms) (hq : Cond.methodLink own i ⟨"java/lang/Double", "doubleToRawLongBits", "(D)J"⟩ ∈ lw_all) (hnat : Cond.native ⟨"java/lang/Double", "doubleToRawLongBits", "(D)J"⟩ ∈ lw_all) (hstat : Cond.static ⟨"java/lang/Double", "doubleToRawLongBits", "(D)J"⟩ ∈ lw_all) (hini : Cond.initialized "java/lang/Double" ∈ lw_all) (hd : 1 ≤ d) (hcat : (st.map fun v => v.category).sum ≤ 8) (dg : decode cc pc = .ok (.invokestatic i, 3)) (kk : X g nL (pc + 3) lv (.long b.toInt64 :: st) ws k n) : X g nL pc lv (.double b :: st) ws k n := fun hD H locs ls hl hP hS => vn_d2l G.exec G.code (G.maxL.trans hl.1.symm) G.cls (G.hts _ hq) (G.hts _ hnat) (G.hts _ hstat) (G.hts _ hini) (by rw [G.room]; show 1 ≤ 10 + d; omega) (by rw [G.room]; show _ ≤ 11000 + 64 * d; omega) dg (kk hD H locs ls hl hP hS)
theorem x_nl2d {i : Nat} {b : Int64} (G : XO g own cc nL d mc ms) (hq : Cond.methodLink own i ⟨"java/lang/Double", "longBitsToDouble", "(J)D"⟩ ∈ lw_all) (hnat : Cond.native ⟨"java/lang/Double", "longBitsToDouble", "(J)D"⟩ ∈ lw_all) (hstat : Cond.static ⟨"java/lang/Double", "longBitsToDouble", "(J)D"⟩ ∈ lw_all) (hini : Cond.initialized "java/lang/Double" ∈ lw_all) (hv : vn_snl2d b = false) (hd : 1 ≤ d) (hcat : (st.map fun v => v.category).sum ≤ 8) (dg : decode cc pc = .ok (.invokestatic i, 3)) (kk : X g nL (pc + 3) lv (.double b.toUInt64 :: st) ws k n) : X g nL pc lv (.long b :: st) ws k n := fun hD H locs ls hl hP hS => vn_l2d G.exec G.code (G.maxL.trans hl.1.symm) G.cls (G.hts _ hq) (G.hts _ hnat) (G.hts _ hstat) (G.hts _ hini) hv (by rw [G.room]; show 1 ≤ 10 + d; omega) (by rw [G.room]; show _ ≤ 11000 + 64 * d; omega) dg (kk hD H locs ls hl hP hS)
theorem x_nf2i {i : Nat} {b : UInt32} (G : XO g own cc nL d mc ms) (hq : Cond.methodLink own i ⟨"java/lang/Float", "floatToRawIntBits", "(F)I"⟩ ∈ lw_all) (hnat : Cond.native ⟨"java/lang/Float", "floatToRawIntBits", "(F)I"⟩ ∈ lw_all) (hstat : Cond.static ⟨"java/lang/Float", "floatToRawIntBits", "(F)I"⟩ ∈ lw_all) (hini : Cond.initialized "java/lang/Float" ∈ lw_all) (hd : 1 ≤ d) (hcat : (st.map fun v => v.category).sum ≤ 8) (dg : decode cc pc = .ok (.invokestatic i, 3)) (kk : X g nL (pc + 3) lv (.int b.toInt32 :: st) ws k n) : X g nL pc lv (.float b :: st) ws k n := fun hD H locs ls hl hP hS => vn_f2i G.exec G.code (G.maxL.trans hl.1.symm) G.cls (G.hts _ hq) (G.hts _ hnat) (G.hts _ hstat) (G.hts _ hini) (by rw [G.room]; show 1 ≤ 10 + d; omega) (by rw [G.room]; show _ ≤ 11000 + 64 * d; omega) dg (kk hD H locs ls hl hP hS)
theorem x_ni2f {i : Nat} {b : Int32} (G : XO g own cc nL d mc ms) (hq : Cond.methodLink own i ⟨"java/lang/Float", "intBitsToFloat", "(I)F"⟩ ∈ lw_all) (hnat : Cond.native ⟨"java/lang/Float", "intBitsToFloat", "(I)F"⟩ ∈ lw_all) (hstat : Cond.static ⟨"java/lang/Float", "intBitsToFloat", "(I)F"⟩ ∈ lw_all) (hini : Cond.initialized "java/lang/Float" ∈ lw_all) (hv : vn_sni2f b = false) (hd : 1 ≤ d) (hcat : (st.map fun v => v.category).sum ≤ 8) (dg : decode cc pc = .ok (.invokestatic i, 3)) (kk : X g nL (pc + 3) lv (.float b.toUInt32 :: st) ws k n) : X g nL pc lv (.int b :: st) ws k n := fun hD H locs ls hl hP hS => vn_i2f G.exec G.code (G.maxL.trans hl.1.symm) G.cls (G.hts _ hq) (G.hts _ hnat) (G.hts _ hstat) (G.hts _ hini) hv (by rw [G.room]; show 1 ≤ 10 + d; omega) (by rw [G.room]; show _ ≤ 11000 + 64 * d; omega) dg (kk hD H locs ls hl hP hS)
theorem x_gets_negD {i : Nat} (G : XO g own cc nL d mc ms) (hq : Cond.fieldLink own i "java/lang/Math" "negativeZeroDoubleBits" "J" ∈ lw_all) (dg : decode cc pc = .ok (.getstatic i, 3)) (kk : X g nL (pc + 3) lv (.long (-9223372036854775808) :: st) ws k n) : X g nL pc lv st ws k n := fun hD H locs ls hl hP hS => va_gets G.exec G.code G.E.2.2.2.1 hS G.cls (G.hts _ hq) (fun _ h => h) dg (kk hD H locs ls hl hP hS)
theorem x_gets_negF {i : Nat} (G : XO g own cc nL d mc ms) (hq : Cond.fieldLink own i "java/lang/Math" "negativeZeroFloatBits" "J" ∈ lw_all) (dg : decode cc pc = .ok (.getstatic i, 3)) (kk : X g nL (pc + 3) lv (.long (-2147483648) :: st) ws k n) : X g nL pc lv st ws k n := fun hD H locs ls hl hP hS => va_gets G.exec G.code G.E.2.2.2.2.1 hS G.cls (G.hts _ hq) (fun _ h => h) dg (kk hD H locs ls hl hP hS)
theorem x_gets_asrt {i : Nat} (G : XO g own cc nL d mc ms) (hq : Cond.fieldLink own i "java/lang/StrictMath" "$assertionsDisabled" "Z" ∈ lw_all) (dg : decode cc pc = .ok (.getstatic i, 3)) (kk : X g nL (pc + 3) lv (.int 1 :: st) ws k n) : X g nL pc lv st ws k n := fun hD H locs ls hl hP hS => va_gets G.exec G.code G.E.2.2.2.2.2.1 hS G.cls (G.hts _ hq) (fun _ h => h) dg (kk hD H locs ls hl hP hS)
theorem x_tens {i : Nat} (G : XO g own cc nL d mc ms) (hq : Cond.fieldLink own i "RoundingAuditor" "TENS" "[J" ∈ lw_all) (dg : decode cc pc = .ok (.getstatic i, 3)) (kk : ∀ t : Nat, va_T .long t 7 (fun j => .long (xTens j)) (xA g) (xs g) (xs g).heap → X g nL (pc + 3) lv (.ref t :: st) ws k n) : X g nL pc lv st ws k n := by
  obtain ⟨t, h1, h2⟩ := G.E.2.2.1
  exact fun hD H locs ls hl hP hS => va_gets G.exec G.code h1 hS G.cls (G.hts _ hq) (fun _ h => h) dg (kk t h2 hD H locs ls hl hP hS)
theorem x_tensld {t : Nat} {i : Int32} (G : XO g own cc nL d mc ms) (hT : va_T .long t 7 (fun j => .long (xTens j)) (xA g) (xs g) (xs g).heap) (hin : vp_in i 7) (dg : decode cc pc = .ok (.laload, 1)) (kk : X g nL (pc + 1) lv (.long (xTens i.toNatClampNeg) :: st) ws k n) : X g nL pc lv (.int i :: .ref t :: st) ws k n := fun hD H locs ls hl hP hS => va_tl G.exec G.code hT hS hin rfl dg (kk hD H locs ls hl hP hS)
/-- a new object: its cell comes last -/
theorem x_new {C : String} {T : u_T} {N ci i : Nat} (G : XO g own cc nL d mc ms) (hin : ∀ w ∈ u_ws C T N, w ∈ lw_all) (ty : Nat → FieldType) (hty : ∀ k, k < N → parseFieldDescriptor (T k).2.2.1 = some (ty k)) (hcl : Cond.classLink own i C ∈ lw_all) (hinst : Cond.instantiable C N ∈ lw_all) (hini : Cond.initialized C ∈ lw_all) (hc : xCl[ci]? = some (C, T, N)) (fs : List Value) (hfs : ∀ j, j < N → defaultValue (ty j) = vp_V fs j) (hk : k + 1 ≤ mc) (hn : n + N ≤ ms) (dg : decode cc pc = .ok (.new i, 3)) (kk : ∀ q : Nat, X g nL (pc + 3) lv (.ref q :: st) (ws ++ [(q, .inr (ci, fs))]) (k + 1) (n + N)) : X g nL pc lv st ws k n := fun hD H locs ls hl hP hS => va_new G.exec G.code G.hts hin ty hty G.cls (G.hts _ hcl) (G.hts _ hinst) (G.hts _ hini) G.K hP hD hS G.A hc hfs (by rw [G.room]; exact hk) (by rw [G.room]; exact hn) dg (fun q H1 hP1 hD1 hS1 => kk q hD1 H1 locs ls hl hP1 hS1)
/-- a new array: its cell comes last; its kind is the tables' own -/
theorem x_newa {atype : ArrayType} {ty : FieldType} {m : Int32} {N' t0 : Nat} {x0 : (Nat → Int32) ⊕ (Nat → Int64) ⊕ (Nat → UInt32) ⊕ (Nat → UInt64) ⊕ (Nat → Option Nat)} (G : XO g own cc nL d mc ms) (harr : Cond.arrayClass ty ∈ lw_all) (hty : newarray.typeOf atype = ty) (hobj : refKind ty = false) (ht : (xTy (xT g))[t0]? = some (xT g t0, ty)) (ha : ∀ cA : ClassId, vp_cell cA (N', x0) = arrV cA N' (fun _ => defaultValue ty)) (hneg : ¬ m < 0) (hN : m.toNatClampNeg = N') (hbytes : N' * componentBytes ty ≤ 536870912) (hk : k + 1 ≤ mc) (hn : n + N' ≤ ms) (dg : decode cc pc = .ok (.newarray atype, 2)) (kk : ∀ q : Nat, X g nL (pc + 2) lv (.ref q :: st) (ws ++ [(q, .inl (xT g t0, N', x0))]) (k + 1) (n + N')) : X g nL pc lv (.int m :: st) ws k n := fun hD H locs ls hl hP hS => by
  have h1 := (G.K.2 t0 _ ht).2
  refine va_newa (a0 := (N', x0)) G.exec G.code (by rw [hty]; exact G.hts _ harr) hty G.K hP hD hS G.A ha hneg hN hbytes (by rw [G.room]; exact hk) (by rw [G.room]; exact hn) dg (fun q cA H1 hK1 hP1 hD1 hS1 => ?_)
  have h2 := (hK1.2 (xTy (xT g)).length (cA, ty) (by rw [List.getElem?_append_right (Nat.le_refl _), Nat.sub_self]; rfl)).2
  have e : cA = xT g t0 := by
    cases ty with
    | object C => cases hobj
    | array t => exact Option.some.inj (h2.symm.trans h1)
    | _ => exact Option.some.inj (h2.symm.trans h1)
  subst e
  exact kk q hD1 H1 locs ls hl hP1 hS1
end
section
variable {g : XG} {own : String} {cc : ByteArray} {nL d mc ms pc : Nat} {lv lv' : List (Nat × Value)} {st : List Value} {ws ws' : va_W} {k n : Nat} {S : Type} {wout : S → va_W}
variable {y : MethodName} {bytes : ByteArray} {maxL d' mc' ms' i : Nat} {ret : Option FieldType} {wc wr : va_W} {Qc : Nat → Array Value → State → Outcome → State → Prop} {b : Nat} {As rest : List Value}
/-- a call through an object, by the class of the object: what the entry names may be another's -/
theorem x_runU (G : XO g own cc nL d mc ms) {C owner : String} {x : MethodName} (hsub : XSub ws (wr ++ wc)) (hM : ∀ sz, Met (xl g) y (ws_ y bytes maxL ret) (xR d' mc' ms') (xPc (xD g) (xT g) (.ref b :: As) wc sz) (Qc sz) mc' ms' (va_A wc sz)) (hlk : Cond.methodLink own i x ∈ lw_all) (hsame : Cond.sameMethod x.cls owner x.name x.desc ∈ lw_all) (hdecl : va_Decl (xs g) ⟨owner, x.name, x.desc⟩) (hsel : Cond.selects C x y ∈ lw_all) (hinst : Cond.instanceMethod y ∈ lw_all) (hini : Cond.initialized y.cls ∈ lw_all) (hcode : Cond.code y bytes maxL ret ∈ lw_all) (hd : owner ≠ "java/lang/invoke/MethodHandle" ∧ owner ≠ "java/lang/invoke/VarHandle" ∧ (parseMethodDescriptor x.desc).map (fun d => d.parameters.length) = some As.length) (ci q0 : Nat) {q : vw_C} {fs : List Value} (hc : xCl[ci]? = some q) (he : ws[q0]? = some (b, .inr (ci, fs))) (hCq : q.1 = C) (hdep : d' + 1 ≤ d) (hmax : maxL ≤ 45) (hst : st = As.reverse ++ .ref b :: rest) (hcat : (rest.map fun v => v.category).sum ≤ 8) (hk : k + mc' ≤ mc) (hn : n + ms' ≤ ms) (dg : decode cc pc = .ok (.invokevirtual i, 3)) : XRun g nL pc lv st rest ws wc k n mc' ms' Qc := by
  intro H locs ls hD hl hP hS
  refine ⟨_, va_runU (C := C) (owner := owner) (As := As) (rest := rest) ⟨G.exec, G.code, G.maxL, G.cls, G.hts⟩ (hM H.size) ⟨⟨rfl, rfl, by rw [G.room]; show 10 + d' + 1 ≤ 10 + d; omega, by rw [G.room]; show 8 + (maxL + 11) + (11000 + 64 * d') ≤ 11000 + 64 * d; omega, pay_in G.hts (lw_meth hcode), List.mem_cons_self⟩, G.hts _ hcode, G.hts _ hini, ⟨hd.1, hd.2.1⟩, fun sig h => ?_, G.hts _ hlk, G.hts _ hsame, hdecl, G.hts _ hsel, G.hts _ hinst⟩ ⟨xPc_blind, by rw [← hCq]; exact va_recv G.K hP hc he, fun U hU hW => xPc_at G hsub hD hP hS U hU hW⟩ rfl rfl hl.1 hst (lv_room hcat) dg (by rw [G.room]; exact ⟨hk, hn⟩)⟩
  have h2 := hd.2.2
  rw [h] at h2
  exact (Option.some.inj h2).symm
/-- super.m(..) -/
theorem x_runSU (G : XO g own cc nL d mc ms) (hsub : XSub ws (wr ++ wc)) (hM : ∀ sz, Met (xl g) y (ws_ y bytes maxL ret) (xR d' mc' ms') (xPc (xD g) (xT g) (.ref b :: As) wc sz) (Qc sz) mc' ms' (va_A wc sz)) (hlk : Cond.methodLink own i y ∈ lw_all) (hsame : Cond.sameMethod y.cls y.cls y.name y.desc ∈ lw_all) (hsup : Cond.superclass own y.cls ∈ lw_all) (hinst : Cond.instanceMethod y ∈ lw_all) (hini : Cond.initialized y.cls ∈ lw_all) (hcode : Cond.code y bytes maxL ret ∈ lw_all) (hd : y.name ≠ "<init>" ∧ (parseMethodDescriptor y.desc).map (fun d => d.parameters.length) = some As.length) (ci q0 : Nat) {q : vw_C} {fs : List Value} (hc : xCl[ci]? = some q) (he : ws[q0]? = some (b, .inr (ci, fs))) (hdep : d' + 1 ≤ d) (hmax : maxL ≤ 45) (hst : st = As.reverse ++ .ref b :: rest) (hcat : (rest.map fun v => v.category).sum ≤ 8) (hk : k + mc' ≤ mc) (hn : n + ms' ≤ ms) (dg : decode cc pc = .ok (.invokespecial i, 3)) : XRun g nL pc lv st rest ws wc k n mc' ms' Qc := by
  intro H locs ls hD hl hP hS
  refine ⟨_, va_runSU (C := q.1) (As := As) (rest := rest) (G.K.1 ci _ hc).2 ⟨G.exec, G.code, G.maxL, G.cls, G.hts⟩ (hM H.size) ⟨⟨rfl, rfl, by rw [G.room]; show 10 + d' + 1 ≤ 10 + d; omega, by rw [G.room]; show 8 + (maxL + 11) + (11000 + 64 * d') ≤ 11000 + 64 * d; omega, pay_in G.hts (lw_meth hcode), List.mem_cons_self⟩, G.hts _ hlk, G.hts _ hsame, G.hts _ hsup, G.hts _ hinst, G.hts _ hini, G.hts _ hcode, hd.1, fun sig h => ?_⟩ ⟨xPc_blind, va_recv G.K hP hc he, fun U hU hW => xPc_at G hsub hD hP hS U hU hW⟩ rfl rfl hl.1 hst (lv_room hcat) dg (by rw [G.room]; exact ⟨hk, hn⟩)⟩
  have h2 := hd.2
  rw [h] at h2
  exact (Option.some.inj h2).symm
/-- new of a nest mate's class whose maker is its own alone -/
theorem x_runIN (G : XO g own cc nL d mc ms) {host : String} (hsub : XSub ws (wr ++ wc)) (hM : ∀ sz, Met (xl g) y (ws_ y bytes maxL none) (xR d' mc' ms') (xPc (xD g) (xT g) (.ref b :: As) wc sz) (Qc sz) mc' ms' (va_A wc sz)) (hlk : (own, i, y, host) ∈ xNM) (hinst : Cond.instanceMethod y ∈ lw_all) (hini : Cond.initialized y.cls ∈ lw_all) (hcode : Cond.code y bytes maxL none ∈ lw_all) (hy1 : y.name = "<init>") (hd : y.cls ≠ "java/lang/invoke/MethodHandle" ∧ y.cls ≠ "java/lang/invoke/VarHandle" ∧ (parseMethodDescriptor y.desc).map (fun d => d.parameters.length) = some As.length) (hdep : d' + 1 ≤ d) (hmax : maxL ≤ 45) (hst : st = As.reverse ++ .ref b :: rest) (hcat : (rest.map fun v => v.category).sum ≤ 8) (hk : k + mc' ≤ mc) (hn : n + ms' ≤ ms) (dg : decode cc pc = .ok (.invokespecial i, 3)) : XRun g nL pc lv st rest ws wc k n mc' ms' Qc := by
  intro H locs ls hD hl hP hS
  refine ⟨_, va_runIN (As := As) (rest := rest) ⟨G.exec, G.code, G.maxL, G.cls, G.hts⟩ (hM H.size) ⟨va_cnB As.length G.hts (lw_meth hcode) rfl rfl rfl (G.E.2.1.2.1 _ hlk) (G.hts _ hini) hd (by rw [G.room]; exact ⟨by show 10 + d' + 1 ≤ 10 + d; omega, by show 8 + (maxL + 11) + (11000 + 64 * d') ≤ 11000 + 64 * d; omega⟩), hy1, G.hts _ hinst⟩ ⟨xPc_blind, fun U hU hW => xPc_at G hsub hD hP hS U hU hW⟩ rfl rfl hl.1 hst (lv_room hcat) dg (by rw [G.room]; exact ⟨hk, hn⟩)⟩
/-- Object's maker -/
theorem x_objInit (G : XO g own cc nL d mc ms) {a : Nat} (hlk : Cond.methodLink own i Lib.objectInit ∈ lw_all) (hin : Cond.instanceMethod Lib.objectInit ∈ lw_all) (hcode : Cond.code Lib.objectInit ⟨#[0xb1]⟩ 1 none ∈ lw_all) (hcat : (st.map fun v => v.category).sum ≤ 8) (dg : decode cc pc = .ok (.invokespecial i, 3)) (kk : X g nL (pc + 3) lv st ws k n) : X g nL pc lv (.ref a :: st) ws k n := fun hD H locs ls hl hP hS => by
  have h9 := lv_room (m := xm g) (pc := pc) (ls := ls) (rest := .ref a :: st) hcat
  exact W.objInit G.exec G.code G.cls (G.hts _ hlk) (G.hts _ hin) (G.hts _ hcode) rfl (by rw [G.maxL]; exact hl.1) rfl dg (by rw [G.room]; show 1 ≤ 10 + d; omega) (by rw [G.room]; show _ ≤ 11000 + 64 * d; omega) (W.eq rfl (kk hD H locs ls hl hP hS))
end
