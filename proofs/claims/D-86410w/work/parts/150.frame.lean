/-! the frame rule of contracts: more of the world, more room. Printed by gen/frame.py -/
theorem fr_join {D : va_G} {A : Nat → Prop} {ws wc wr w1 : va_W} {H H1 : Heap} (hsub : XSub ws (wr ++ wc)) (hD : va_D A ws) (hA : ∀ q, H.size ≤ q → A q) (hP : va_P D xCl ws H) (hk : ∀ q : Nat, q < H.size → ¬ va_A wc H.size q → H1[q]? = H[q]?) (hP1 : va_P D xCl w1 H1) (hD1 : va_D (va_A wc H.size) w1) : va_P D xCl (wr ++ w1) H1 ∧ va_D A (wr ++ w1) := by
  have hD2 := hsub.2 _ hD
  have hPr : va_P D xCl wr H := va_P.ofMem fun q hq => hP.mem (hsub.1 q (List.mem_append_left _ hq))
  have hF : ∀ q, va_A wc H.size q → A q := by
    intro q h
    rcases h with ⟨i, e, h⟩ | h
    · exact (va_D.iff.mp hD2).2 (q, e) (List.mem_append_right _ (List.mem_of_getElem? h))
    · exact hA q h
  have apart : ∀ q ∈ wr, q.1 < H.size ∧ ¬ va_A wc H.size q.1 := by
    intro q hq
    have hl := (hPr.mem hq).lt
    refine ⟨hl, fun h => ?_⟩
    rcases h with ⟨i, e, h⟩ | h
    · have h3 := (va_D.iff.mp hD2).1
      rw [List.map_append] at h3
      exact (List.nodup_append.mp h3).2.2 q.1 (List.mem_map_of_mem hq) q.1 (List.mem_map.mpr ⟨(q.1, e), List.mem_of_getElem? h, rfl⟩) rfl
    · omega
  refine ⟨va_P.ofMem fun q hq => ?_, ?_⟩
  · rcases List.mem_append.mp hq with h | h
    · exact (hPr.mem h).kept (hk q.1 (apart q h).1 (apart q h).2)
    · exact hP1.mem h
  · rw [va_D.iff] at hD2 ⊢
    rw [va_D.iff] at hD1
    rw [List.map_append] at hD2 ⊢
    have h3 := List.nodup_append.mp hD2.1
    refine ⟨List.nodup_append.mpr ⟨h3.1, hD1.1, fun a ha b hb hab => ?_⟩, fun q hq => ?_⟩
    · obtain ⟨q, hq, rfl⟩ := List.mem_map.mp ha
      obtain ⟨q2, hq2, rfl⟩ := List.mem_map.mp hb
      exact (apart q hq).2 (by rw [hab]; exact hD1.2 q2 hq2)
    · rcases List.mem_append.mp hq with h | h
      · exact hD2.2 q (List.mem_append_left _ h)
      · exact hF q.1 (hD1.2 q h)
theorem fr_A {ws wc wr : va_W} {sz : Nat} (hsub : XSub ws (wr ++ wc)) : ∀ q, va_A wc sz q → va_A ws sz q := by
  intro q h
  rcases h with ⟨i, e, h⟩ | h
  · obtain ⟨j, hj⟩ := List.getElem?_of_mem (hsub.1 (q, e) (List.mem_append_right _ (List.mem_of_getElem? h)))
    exact Or.inl ⟨j, e, hj⟩
  · exact Or.inr h
theorem fr_hasRoom {s : State} {pl : Platform} {r r' : Room} (h1 : r.frames ≤ r'.frames) (h2 : r.locals ≤ r'.locals) (h3 : r.cells ≤ r'.cells) (h4 : r.slots ≤ r'.slots) (h : s.hasRoom pl r' = true) : s.hasRoom pl r = true := by
  simp only [State.hasRoom, Bool.and_eq_true, decide_eq_true_eq] at h ⊢
  refine ⟨⟨⟨⟨?_, ?_⟩, ?_⟩, ?_⟩, h.2⟩
  · omega
  · refine ⟨?_, ?_, ?_, ?_, h.1.1.1.2.2.2.2.2⟩ <;> omega
  · omega
  · omega
theorem fr_pre {D : va_G} {ta : Nat → ClassId} {av : List Value} {ws wc wr : va_W} {sz : Nat} (hsub : XSub ws (wr ++ wc)) {a : Array Value} {U : State} (h : xPc D ta av ws sz a U) : xPc D ta av wc sz a U := by
  obtain ⟨h1, h2, h3, h4, h5⟩ := h
  refine ⟨h1, h2, va_P.ofMem fun q hq => h3.mem (hsub.1 q (List.mem_append_right _ hq)), h4.to (s := U) (U := U) (State.WarmedH.refl U) (fun _ _ _ => rfl) (fr_A hsub), ?_⟩
  have h6 := hsub.2 _ h5
  rw [va_D.iff] at h6 ⊢
  rw [List.map_append] at h6
  exact ⟨(List.nodup_append.mp h6.1).2.1, fun _ _ => trivial⟩
theorem fr_B {D : va_G} {ta : Nat → ClassId} {av : List Value} {ws wc wr : va_W} {sz : Nat} (hsub : XSub ws (wr ++ wc)) {a : Array Value} {st t : State} (h : xPc D ta av ws sz a st) {S S' : Type} {wo : S → va_W} {wo' : S' → va_W} {u : S} {u' : S'} (hw : XSub (wr ++ wo u) (wo' u')) (hB : xB D wo (va_A wc sz) u t) (hF : va_F (va_A wc sz) st t) : xB D wo' (va_A ws sz) u' t ∧ va_F (va_A ws sz) st t := by
  obtain ⟨h1, h2, h3, h4, h5⟩ := h
  subst h2
  have hself : va_D (va_A ws st.heap.size) ws := h5.self
  obtain ⟨j1, j2⟩ := fr_join hsub hself (fun q hq => Or.inr hq) h3 hF.2 hB.1 hB.2
  exact ⟨⟨hw.P j1, hw.2 _ j2⟩, hF.1, fun q h6 h7 => hF.2 q h6 fun h8 => h7 (fr_A hsub q h8)⟩
theorem fr_met {l : Launch} {y : MethodName} {w : List Cond} {rm rm' : Room} {Pc Pc' : Array Value → State → Prop} {Q Q' : Array Value → State → Outcome → State → Prop} (h1 : rm.frames ≤ rm'.frames) (h2 : rm.locals ≤ rm'.locals) (h3 : rm.cells ≤ rm'.cells) (h4 : rm.slots ≤ rm'.slots) (hp : ∀ a s, Pc' a s → Pc a s) (hq : ∀ a s o t, Pc' a s → Q a s o t → Q' a s o t) (h : MetFree l y (headSpec w rm) Pc (fun _ _ _ _ _ => True) Q) : MetFree l y (headSpec w rm') Pc' (fun _ _ _ _ _ => True) Q' := by
  intro p e ha hc hk s m args below hf happ hP hK
  have happ2 : (headSpec w rm).appliesLoose y e.platform s = true := by
    rw [Spec.appliesLoose_iff hf] at happ ⊢
    obtain ⟨z1, z2, z3, z4, z5, z6, z7, z8⟩ := happ
    exact ⟨z1, z2, z3, z4, z5, z6, fr_hasRoom h1 h2 h3 h4 z7, z8⟩
  obtain ⟨n, o, j1, j2, j3, j4⟩ := h p e ha hc hk s m args below hf happ2 (hp _ _ hP) hK
  exact ⟨n, o, j1, j2, j3, hq _ _ _ _ hP j4⟩
theorem fr_R {d d' mc mc' ms ms' : Nat} (hd : d ≤ d') : (xR d mc ms).frames ≤ (xR d' mc' ms').frames ∧ (xR d mc ms).locals ≤ (xR d' mc' ms').locals := ⟨Nat.add_le_add_left hd _, by show 11000 + 64 * d ≤ 11000 + 64 * d'; omega⟩
theorem fr_E {st t : State} {o : Outcome} {mc mc' ms ms' : Nat} {f f' : Addr → Prop} (h1 : mc ≤ mc') (h2 : ms ≤ ms') (hf : ∀ q, f q → f' q) (h : ∃ L, FrameEnd st o t L mc ms ∧ ∀ q ∈ L, f q.base) : ∃ L, FrameEnd st o t L mc' ms' ∧ ∀ q ∈ L, f' q.base := by
  obtain ⟨L, ⟨z1, z2, z3⟩, z4⟩ := h
  exact ⟨L, ⟨z1, z2, z3.mono h1 h2⟩, fun q hq => hf _ (z4 q hq)⟩
theorem fr_T {XC XC' : String → State → State → Prop} {st t : State} {q : Addr} {mc mc' ms ms' : Nat} {f f' : Addr → Prop} (h1 : mc ≤ mc') (h2 : ms ≤ ms') (hf : ∀ q, f q → f' q) (hx : ∀ E, XC E st t → XC' E st t) (h : vx_T XC st q t mc ms f) : vx_T XC' st q t mc' ms' f' := by
  obtain ⟨E, ce, L, z1, z2, z3, z4, z5, z6, z7⟩ := h
  exact ⟨E, ce, L, hx E z1, z2, z3, z4, z5, z6.mono h1 h2, fun w hw => hf _ (z7 w hw)⟩
theorem fr_SMi {l : Launch} {D : va_G} {ta : Nat → ClassId} {y : MethodName} {cc : ByteArray} {nL : Nat} {ret : FieldType} {d d' : Nat} {av : List Value} {ws wc : va_W} (wr : va_W) {S S' : Type} {wo : S → va_W} {wo' : S' → va_W} {mc ms mc' ms' : Nat} {post : Int32 → S → Prop} {post' : Int32 → S' → Prop} (hd : d ≤ d') (h1 : mc ≤ mc') (h2 : ms ≤ ms') (hsub : XSub ws (wr ++ wc)) (f : S → S') (hw : ∀ u, XSub (wr ++ wo u) (wo' (f u))) (hk : ∀ r u, post r u → post' r (f u)) (h : SMi l D ta y cc nL ret d av wc wo mc ms post) : SMi l D ta y cc nL ret d' av ws wo' mc' ms' post' := fun sz => by
  refine fr_met (fr_R hd).1 (fr_R hd).2 h1 h2 (fun a s hp => fr_pre hsub hp) (fun a s o t hP h => ?_) (h sz)
  obtain ⟨⟨⟨r, u, ho, hp, hB⟩, hF⟩, hE⟩ := h
  obtain ⟨k1, k2⟩ := fr_B hsub hP (hw u) hB hF
  exact ⟨⟨⟨r, f u, ho, hk r u hp, k1⟩, k2⟩, fr_E h1 h2 (fr_A hsub) hE⟩
theorem fr_SXi {l : Launch} {D : va_G} {ta : Nat → ClassId} {y : MethodName} {cc : ByteArray} {nL : Nat} {ret : FieldType} {d d' : Nat} {av : List Value} {ws wc : va_W} (wr : va_W) {S S' : Type} {wo : S → va_W} {wo' : S' → va_W} {mc ms mc' ms' : Nat} {post : Int32 → S → Prop} {post' : Int32 → S' → Prop} (hd : d ≤ d') (h1 : mc ≤ mc') (h2 : ms ≤ ms') (hsub : XSub ws (wr ++ wc)) (f : S → S') (hw : ∀ u, XSub (wr ++ wo u) (wo' (f u))) (hk : ∀ r u, post r u → post' r (f u)) {PX : String → S → Prop} {PX' : String → S' → Prop} (hx : ∀ E u, PX E u → PX' E (f u)) (h : SXi l D ta y cc nL ret d av wc wo mc ms post PX) : SXi l D ta y cc nL ret d' av ws wo' mc' ms' post' PX' := fun sz => by
  refine fr_met (fr_R hd).1 (fr_R hd).2 h1 h2 (fun a s hp => fr_pre hsub hp) (fun a s o t hP h => ?_) (h sz)
  rcases h with ⟨⟨⟨r, u, ho, hp, hB⟩, hF⟩, hE⟩ | ⟨q, ho, hT⟩
  · obtain ⟨k1, k2⟩ := fr_B hsub hP (hw u) hB hF
    exact Or.inl ⟨⟨⟨r, f u, ho, hk r u hp, k1⟩, k2⟩, fr_E h1 h2 (fr_A hsub) hE⟩
  · refine Or.inr ⟨q, ho, fr_T h1 h2 (fr_A hsub) (fun E hX => ?_) hT⟩
    obtain ⟨u, -, ⟨hp, hB⟩, hF⟩ := hX
    obtain ⟨k1, k2⟩ := fr_B hsub hP (hw u) hB hF
    exact ⟨f u, trivial, ⟨hx E u hp, k1⟩, k2⟩
theorem fr_SHi {l : Launch} {D : va_G} {ta : Nat → ClassId} {y : MethodName} {cc : ByteArray} {nL : Nat} {ret : FieldType} {hh : List (Nat × Nat × Nat × Nat)} {d d' : Nat} {av : List Value} {ws wc : va_W} (wr : va_W) {S S' : Type} {wo : S → va_W} {wo' : S' → va_W} {mc ms mc' ms' : Nat} {post : Int32 → S → Prop} {post' : Int32 → S' → Prop} (hd : d ≤ d') (h1 : mc ≤ mc') (h2 : ms ≤ ms') (hsub : XSub ws (wr ++ wc)) (f : S → S') (hw : ∀ u, XSub (wr ++ wo u) (wo' (f u))) (hk : ∀ r u, post r u → post' r (f u)) {PX : String → S → Prop} {PX' : String → S' → Prop} (hx : ∀ E u, PX E u → PX' E (f u)) (h : SHi l D ta y cc nL ret hh d av wc wo mc ms post PX) : SHi l D ta y cc nL ret hh d' av ws wo' mc' ms' post' PX' := fun sz => by
  refine fr_met (fr_R hd).1 (fr_R hd).2 h1 h2 (fun a s hp => fr_pre hsub hp) (fun a s o t hP h => ?_) (h sz)
  rcases h with ⟨⟨⟨r, u, ho, hp, hB⟩, hF⟩, hE⟩ | ⟨q, ho, hT⟩
  · obtain ⟨k1, k2⟩ := fr_B hsub hP (hw u) hB hF
    exact Or.inl ⟨⟨⟨r, f u, ho, hk r u hp, k1⟩, k2⟩, fr_E h1 h2 (fr_A hsub) hE⟩
  · refine Or.inr ⟨q, ho, fr_T h1 h2 (fr_A hsub) (fun E hX => ?_) hT⟩
    obtain ⟨u, -, ⟨hp, hB⟩, hF⟩ := hX
    obtain ⟨k1, k2⟩ := fr_B hsub hP (hw u) hB hF
    exact ⟨f u, trivial, ⟨hx E u hp, k1⟩, k2⟩
theorem fr_MXi {l : Launch} {D : va_G} {ta : Nat → ClassId} {y : MethodName} {cc : ByteArray} {nL : Nat} {ret : FieldType} {d : Nat} {av : List Value} {wc : va_W} {S : Type} {wo : S → va_W} {mc ms : Nat} {post : Int32 → S → Prop} {PX : String → S → Prop} (h : SMi l D ta y cc nL ret d av wc wo mc ms post) : SXi l D ta y cc nL ret d av wc wo mc ms post PX := fun sz => fr_met (Nat.le_refl _) (Nat.le_refl _) (Nat.le_refl _) (Nat.le_refl _) (fun _ _ h => h) (fun _ _ _ _ _ h => Or.inl h) (h sz)
theorem fr_SMl {l : Launch} {D : va_G} {ta : Nat → ClassId} {y : MethodName} {cc : ByteArray} {nL : Nat} {ret : FieldType} {d d' : Nat} {av : List Value} {ws wc : va_W} (wr : va_W) {S S' : Type} {wo : S → va_W} {wo' : S' → va_W} {mc ms mc' ms' : Nat} {post : Int64 → S → Prop} {post' : Int64 → S' → Prop} (hd : d ≤ d') (h1 : mc ≤ mc') (h2 : ms ≤ ms') (hsub : XSub ws (wr ++ wc)) (f : S → S') (hw : ∀ u, XSub (wr ++ wo u) (wo' (f u))) (hk : ∀ r u, post r u → post' r (f u)) (h : SMl l D ta y cc nL ret d av wc wo mc ms post) : SMl l D ta y cc nL ret d' av ws wo' mc' ms' post' := fun sz => by
  refine fr_met (fr_R hd).1 (fr_R hd).2 h1 h2 (fun a s hp => fr_pre hsub hp) (fun a s o t hP h => ?_) (h sz)
  obtain ⟨⟨⟨r, u, ho, hp, hB⟩, hF⟩, hE⟩ := h
  obtain ⟨k1, k2⟩ := fr_B hsub hP (hw u) hB hF
  exact ⟨⟨⟨r, f u, ho, hk r u hp, k1⟩, k2⟩, fr_E h1 h2 (fr_A hsub) hE⟩
theorem fr_SXl {l : Launch} {D : va_G} {ta : Nat → ClassId} {y : MethodName} {cc : ByteArray} {nL : Nat} {ret : FieldType} {d d' : Nat} {av : List Value} {ws wc : va_W} (wr : va_W) {S S' : Type} {wo : S → va_W} {wo' : S' → va_W} {mc ms mc' ms' : Nat} {post : Int64 → S → Prop} {post' : Int64 → S' → Prop} (hd : d ≤ d') (h1 : mc ≤ mc') (h2 : ms ≤ ms') (hsub : XSub ws (wr ++ wc)) (f : S → S') (hw : ∀ u, XSub (wr ++ wo u) (wo' (f u))) (hk : ∀ r u, post r u → post' r (f u)) {PX : String → S → Prop} {PX' : String → S' → Prop} (hx : ∀ E u, PX E u → PX' E (f u)) (h : SXl l D ta y cc nL ret d av wc wo mc ms post PX) : SXl l D ta y cc nL ret d' av ws wo' mc' ms' post' PX' := fun sz => by
  refine fr_met (fr_R hd).1 (fr_R hd).2 h1 h2 (fun a s hp => fr_pre hsub hp) (fun a s o t hP h => ?_) (h sz)
  rcases h with ⟨⟨⟨r, u, ho, hp, hB⟩, hF⟩, hE⟩ | ⟨q, ho, hT⟩
  · obtain ⟨k1, k2⟩ := fr_B hsub hP (hw u) hB hF
    exact Or.inl ⟨⟨⟨r, f u, ho, hk r u hp, k1⟩, k2⟩, fr_E h1 h2 (fr_A hsub) hE⟩
  · refine Or.inr ⟨q, ho, fr_T h1 h2 (fr_A hsub) (fun E hX => ?_) hT⟩
    obtain ⟨u, -, ⟨hp, hB⟩, hF⟩ := hX
    obtain ⟨k1, k2⟩ := fr_B hsub hP (hw u) hB hF
    exact ⟨f u, trivial, ⟨hx E u hp, k1⟩, k2⟩
theorem fr_SHl {l : Launch} {D : va_G} {ta : Nat → ClassId} {y : MethodName} {cc : ByteArray} {nL : Nat} {ret : FieldType} {hh : List (Nat × Nat × Nat × Nat)} {d d' : Nat} {av : List Value} {ws wc : va_W} (wr : va_W) {S S' : Type} {wo : S → va_W} {wo' : S' → va_W} {mc ms mc' ms' : Nat} {post : Int64 → S → Prop} {post' : Int64 → S' → Prop} (hd : d ≤ d') (h1 : mc ≤ mc') (h2 : ms ≤ ms') (hsub : XSub ws (wr ++ wc)) (f : S → S') (hw : ∀ u, XSub (wr ++ wo u) (wo' (f u))) (hk : ∀ r u, post r u → post' r (f u)) {PX : String → S → Prop} {PX' : String → S' → Prop} (hx : ∀ E u, PX E u → PX' E (f u)) (h : SHl l D ta y cc nL ret hh d av wc wo mc ms post PX) : SHl l D ta y cc nL ret hh d' av ws wo' mc' ms' post' PX' := fun sz => by
  refine fr_met (fr_R hd).1 (fr_R hd).2 h1 h2 (fun a s hp => fr_pre hsub hp) (fun a s o t hP h => ?_) (h sz)
  rcases h with ⟨⟨⟨r, u, ho, hp, hB⟩, hF⟩, hE⟩ | ⟨q, ho, hT⟩
  · obtain ⟨k1, k2⟩ := fr_B hsub hP (hw u) hB hF
    exact Or.inl ⟨⟨⟨r, f u, ho, hk r u hp, k1⟩, k2⟩, fr_E h1 h2 (fr_A hsub) hE⟩
  · refine Or.inr ⟨q, ho, fr_T h1 h2 (fr_A hsub) (fun E hX => ?_) hT⟩
    obtain ⟨u, -, ⟨hp, hB⟩, hF⟩ := hX
    obtain ⟨k1, k2⟩ := fr_B hsub hP (hw u) hB hF
    exact ⟨f u, trivial, ⟨hx E u hp, k1⟩, k2⟩
theorem fr_MXl {l : Launch} {D : va_G} {ta : Nat → ClassId} {y : MethodName} {cc : ByteArray} {nL : Nat} {ret : FieldType} {d : Nat} {av : List Value} {wc : va_W} {S : Type} {wo : S → va_W} {mc ms : Nat} {post : Int64 → S → Prop} {PX : String → S → Prop} (h : SMl l D ta y cc nL ret d av wc wo mc ms post) : SXl l D ta y cc nL ret d av wc wo mc ms post PX := fun sz => fr_met (Nat.le_refl _) (Nat.le_refl _) (Nat.le_refl _) (Nat.le_refl _) (fun _ _ h => h) (fun _ _ _ _ _ h => Or.inl h) (h sz)
theorem fr_SMd {l : Launch} {D : va_G} {ta : Nat → ClassId} {y : MethodName} {cc : ByteArray} {nL : Nat} {ret : FieldType} {d d' : Nat} {av : List Value} {ws wc : va_W} (wr : va_W) {S S' : Type} {wo : S → va_W} {wo' : S' → va_W} {mc ms mc' ms' : Nat} {post : UInt64 → S → Prop} {post' : UInt64 → S' → Prop} (hd : d ≤ d') (h1 : mc ≤ mc') (h2 : ms ≤ ms') (hsub : XSub ws (wr ++ wc)) (f : S → S') (hw : ∀ u, XSub (wr ++ wo u) (wo' (f u))) (hk : ∀ r u, post r u → post' r (f u)) (h : SMd l D ta y cc nL ret d av wc wo mc ms post) : SMd l D ta y cc nL ret d' av ws wo' mc' ms' post' := fun sz => by
  refine fr_met (fr_R hd).1 (fr_R hd).2 h1 h2 (fun a s hp => fr_pre hsub hp) (fun a s o t hP h => ?_) (h sz)
  obtain ⟨⟨⟨r, u, ho, hp, hB⟩, hF⟩, hE⟩ := h
  obtain ⟨k1, k2⟩ := fr_B hsub hP (hw u) hB hF
  exact ⟨⟨⟨r, f u, ho, hk r u hp, k1⟩, k2⟩, fr_E h1 h2 (fr_A hsub) hE⟩
theorem fr_SXd {l : Launch} {D : va_G} {ta : Nat → ClassId} {y : MethodName} {cc : ByteArray} {nL : Nat} {ret : FieldType} {d d' : Nat} {av : List Value} {ws wc : va_W} (wr : va_W) {S S' : Type} {wo : S → va_W} {wo' : S' → va_W} {mc ms mc' ms' : Nat} {post : UInt64 → S → Prop} {post' : UInt64 → S' → Prop} (hd : d ≤ d') (h1 : mc ≤ mc') (h2 : ms ≤ ms') (hsub : XSub ws (wr ++ wc)) (f : S → S') (hw : ∀ u, XSub (wr ++ wo u) (wo' (f u))) (hk : ∀ r u, post r u → post' r (f u)) {PX : String → S → Prop} {PX' : String → S' → Prop} (hx : ∀ E u, PX E u → PX' E (f u)) (h : SXd l D ta y cc nL ret d av wc wo mc ms post PX) : SXd l D ta y cc nL ret d' av ws wo' mc' ms' post' PX' := fun sz => by
  refine fr_met (fr_R hd).1 (fr_R hd).2 h1 h2 (fun a s hp => fr_pre hsub hp) (fun a s o t hP h => ?_) (h sz)
  rcases h with ⟨⟨⟨r, u, ho, hp, hB⟩, hF⟩, hE⟩ | ⟨q, ho, hT⟩
  · obtain ⟨k1, k2⟩ := fr_B hsub hP (hw u) hB hF
    exact Or.inl ⟨⟨⟨r, f u, ho, hk r u hp, k1⟩, k2⟩, fr_E h1 h2 (fr_A hsub) hE⟩
  · refine Or.inr ⟨q, ho, fr_T h1 h2 (fr_A hsub) (fun E hX => ?_) hT⟩
    obtain ⟨u, -, ⟨hp, hB⟩, hF⟩ := hX
    obtain ⟨k1, k2⟩ := fr_B hsub hP (hw u) hB hF
    exact ⟨f u, trivial, ⟨hx E u hp, k1⟩, k2⟩
theorem fr_MXd {l : Launch} {D : va_G} {ta : Nat → ClassId} {y : MethodName} {cc : ByteArray} {nL : Nat} {ret : FieldType} {d : Nat} {av : List Value} {wc : va_W} {S : Type} {wo : S → va_W} {mc ms : Nat} {post : UInt64 → S → Prop} {PX : String → S → Prop} (h : SMd l D ta y cc nL ret d av wc wo mc ms post) : SXd l D ta y cc nL ret d av wc wo mc ms post PX := fun sz => fr_met (Nat.le_refl _) (Nat.le_refl _) (Nat.le_refl _) (Nat.le_refl _) (fun _ _ h => h) (fun _ _ _ _ _ h => Or.inl h) (h sz)
theorem fr_SMv {l : Launch} {D : va_G} {ta : Nat → ClassId} {y : MethodName} {cc : ByteArray} {nL : Nat} {d d' : Nat} {av : List Value} {ws wc : va_W} (wr : va_W) {S S' : Type} {wo : S → va_W} {wo' : S' → va_W} {mc ms mc' ms' : Nat} {post : S → Prop} {post' : S' → Prop} (hd : d ≤ d') (h1 : mc ≤ mc') (h2 : ms ≤ ms') (hsub : XSub ws (wr ++ wc)) (f : S → S') (hw : ∀ u, XSub (wr ++ wo u) (wo' (f u))) (hk : ∀ u, post u → post' (f u)) (h : SMv l D ta y cc nL d av wc wo mc ms post) : SMv l D ta y cc nL d' av ws wo' mc' ms' post' := fun sz => by
  refine fr_met (fr_R hd).1 (fr_R hd).2 h1 h2 (fun a s hp => fr_pre hsub hp) (fun a s o t hP h => ?_) (h sz)
  obtain ⟨⟨⟨u, ho, hp, hB⟩, hF⟩, hE⟩ := h
  obtain ⟨k1, k2⟩ := fr_B hsub hP (hw u) hB hF
  exact ⟨⟨⟨f u, ho, hk u hp, k1⟩, k2⟩, fr_E h1 h2 (fr_A hsub) hE⟩
theorem fr_SXv {l : Launch} {D : va_G} {ta : Nat → ClassId} {y : MethodName} {cc : ByteArray} {nL : Nat} {d d' : Nat} {av : List Value} {ws wc : va_W} (wr : va_W) {S S' : Type} {wo : S → va_W} {wo' : S' → va_W} {mc ms mc' ms' : Nat} {post : S → Prop} {post' : S' → Prop} (hd : d ≤ d') (h1 : mc ≤ mc') (h2 : ms ≤ ms') (hsub : XSub ws (wr ++ wc)) (f : S → S') (hw : ∀ u, XSub (wr ++ wo u) (wo' (f u))) (hk : ∀ u, post u → post' (f u)) {PX : String → S → Prop} {PX' : String → S' → Prop} (hx : ∀ E u, PX E u → PX' E (f u)) (h : SXv l D ta y cc nL d av wc wo mc ms post PX) : SXv l D ta y cc nL d' av ws wo' mc' ms' post' PX' := fun sz => by
  refine fr_met (fr_R hd).1 (fr_R hd).2 h1 h2 (fun a s hp => fr_pre hsub hp) (fun a s o t hP h => ?_) (h sz)
  rcases h with ⟨⟨⟨u, ho, hp, hB⟩, hF⟩, hE⟩ | ⟨q, ho, hT⟩
  · obtain ⟨k1, k2⟩ := fr_B hsub hP (hw u) hB hF
    exact Or.inl ⟨⟨⟨f u, ho, hk u hp, k1⟩, k2⟩, fr_E h1 h2 (fr_A hsub) hE⟩
  · refine Or.inr ⟨q, ho, fr_T h1 h2 (fr_A hsub) (fun E hX => ?_) hT⟩
    obtain ⟨u, -, ⟨hp, hB⟩, hF⟩ := hX
    obtain ⟨k1, k2⟩ := fr_B hsub hP (hw u) hB hF
    exact ⟨f u, trivial, ⟨hx E u hp, k1⟩, k2⟩
theorem fr_MXv {l : Launch} {D : va_G} {ta : Nat → ClassId} {y : MethodName} {cc : ByteArray} {nL : Nat} {d : Nat} {av : List Value} {wc : va_W} {S : Type} {wo : S → va_W} {mc ms : Nat} {post : S → Prop} {PX : String → S → Prop} (h : SMv l D ta y cc nL d av wc wo mc ms post) : SXv l D ta y cc nL d av wc wo mc ms post PX := fun sz => fr_met (Nat.le_refl _) (Nat.le_refl _) (Nat.le_refl _) (Nat.le_refl _) (fun _ _ h => h) (fun _ _ _ _ _ h => Or.inl h) (h sz)
