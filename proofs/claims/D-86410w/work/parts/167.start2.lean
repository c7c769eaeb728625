/-! the claim's start: statics, the frame's facts, the law's walk. Printed by gen/start.py -/
set_option maxRecDepth 100000 in
/-- the statics at the law's entry -/
theorem e_statics {s : State} {b : Nat} {A : Nat → Prop} (ht : ∀ w ∈ lw_tbl, w.before #[Value.ref b] s = true) (h : (Jvm.Cond.and given_1 narrow_1).before #[Value.ref b] s = true) (hA : ∀ a : Nat, a < s.heap.size → ¬ A a) : ∃ e0 mi : Nat, ∀ ta : Nat → ClassId, ta 20 = e0 → ta 21 = mi → XZ ta A s s.heap := by
  have hs := flat_of_before _ h
  obtain ⟨t, t1, t2⟩ := va_Tof (tm := (.static "RoundingAuditor" "TENS" "[J")) (ty := .long) (N := 7) (f := fun j => .long (xTens j)) (A := A) (by decide) (hs _ (by decide +kernel)) (va_eqv (u := .int 7) (hs _ (by decide +kernel)) rfl) (by
    intro j hj
    match j, hj with
    | 0, _ => exact va_eqv (u := .long (xTens 0)) (hs _ (by decide +kernel)) rfl
    | 1, _ => exact va_eqv (u := .long (xTens 1)) (hs _ (by decide +kernel)) rfl
    | 2, _ => exact va_eqv (u := .long (xTens 2)) (hs _ (by decide +kernel)) rfl
    | 3, _ => exact va_eqv (u := .long (xTens 3)) (hs _ (by decide +kernel)) rfl
    | 4, _ => exact va_eqv (u := .long (xTens 4)) (hs _ (by decide +kernel)) rfl
    | 5, _ => exact va_eqv (u := .long (xTens 5)) (hs _ (by decide +kernel)) rfl
    | 6, _ => exact va_eqv (u := .long (xTens 6)) (hs _ (by decide +kernel)) rfl
    | n + 7, hj => exact absurd hj (by omega)) hA
  obtain ⟨e0, e1, e2⟩ := va_Tof (tm := (.static "java/util/ArrayList" "DEFAULTCAPACITY_EMPTY_ELEMENTDATA" "[Ljava/lang/Object;")) (ty := .object "java/lang/Object") (N := 0) (f := fun _ => .null) (A := A) (by decide) (hs _ (by decide +kernel)) (va_eqv (u := .int 0) (hs _ (by decide +kernel)) rfl) (fun j hj => absurd hj (Nat.not_lt_zero _)) hA
  obtain ⟨mi, hmi⟩ := va_Mi.of (C := "[Ljava/lang/Object;") (hs _ (by decide +kernel))
  refine ⟨e0, mi, fun ta h0 h1 => ?_⟩
  unfold XZ
  rw [h0, h1]
  exact ⟨⟨t, va_Zof (ht _ (by decide +kernel)) (ht _ (by decide +kernel)) t1 hA, t2⟩, va_Zof (ht _ (by decide +kernel)) (ht _ (by decide +kernel)) (va_eqv (u := .long (-9223372036854775808)) (hs _ (by decide +kernel)) rfl) hA, va_Zof (ht _ (by decide +kernel)) (ht _ (by decide +kernel)) (va_eqv (u := .long (-2147483648)) (hs _ (by decide +kernel)) rfl) hA, va_Zof (ht _ (by decide +kernel)) (ht _ (by decide +kernel)) (va_eqv (u := .int 1) (hs _ (by decide +kernel)) rfl) hA, ⟨va_Zof (ht _ (by decide +kernel)) (ht _ (by decide +kernel)) e1 hA, e2, va_Oof (hs _ (by decide +kernel)) e1 hA, hmi⟩, vx_Zqof (ht _ (by decide +kernel)) (ht _ (by decide +kernel)) (hs _ (by decide +kernel)) hA, vx_Zqof (ht _ (by decide +kernel)) (ht _ (by decide +kernel)) (hs _ (by decide +kernel)) hA⟩
theorem lw_retR {p : Program} {l : Launch} {e : Env} {R : Room} {s : State} {m : MethodId} {below : List Frame} {meth : Method} {c : Code} {b : Nat} (hx : p.tables.exec = Jvm.exec) (hb : c.code = code) (hr : meth.sig.returnType = ret) (hlocks : meth.locks = false) {pc : Nat} {H : Heap} {ls : Array Slot} (hdg : decode code pc = .ok (.ireturn, 1)) : W p l e R s m #[Value.ref b] below meth c H [] 603072 7153770 (lw_Z below #[Value.ref b] s) (F0 m pc ls [.int 1]) := by
  intro T hT X
  obtain ⟨fs, hret, hrun, hended, hW, hframe⟩ := X.leave (v := some (.int 1)) (hlocks := hlocks) (fun h => by rw [hr] at h; cases h)
  have hmeth' : T.vm.method? m = some meth := X.method'
  refine ⟨T.setFrames fs, ?_, .returned (some (.int 1)), hrun, hended, rfl, ⟨_, rfl⟩, hW, hframe⟩
  jvm_step X.here [X.here.top, hx, hb, hdg, hmeth', hr, ret, narrow_b1]
  (try refine ⟨rfl, ?_⟩); (try refine ⟨rfl, ?_⟩)
  first | (intro acts; rw [hret _ acts rfl rfl rfl]) | rw [hret _ _ rfl rfl rfl]
  exact Steps.refl _
theorem W_room {p : Program} {l : Launch} {e : Env} {R R' : Room} {s : State} {m : MethodId} {args : Array Value} {below : List Frame} {meth : Method} {c : Code} {H : Heap} {locs : List Loc} {k n : Nat} {Q : State → Prop} {f : JFrame} (h1 : R.frames ≤ R'.frames) (h2 : R.locals ≤ R'.locals) (h3 : R.cells ≤ R'.cells) (h4 : R.slots ≤ R'.slots) (h : W p l e R s m args below meth c H locs k n Q f) : W p l e R' s m args below meth c H locs k n Q f := fun T hT X => h T hT { X with room := fr_hasRoom h1 h2 h3 h4 X.room }
/-- the law's start: a set of states that the entry meets and every case keeps -/
theorem start_of {p : Program} {e : Env} {s : State} {m : MethodId} {below : List Frame} {meth : Method} {c : Code} (l : Launch) (hflags : l.flags = flags0) {b L : Nat} {xs : Nat → Int32} (hL : L ≤ 320) (C0 : lw_At p s m meth c b L xs) (hI : ∀ ta : Nat → ClassId, ∃ I : LSt → Prop, LawSteps ta L xs I ∧ wL_entry (lst0 I)) : W p l e room_1 s m #[Value.ref b] below meth c s.heap [] 0 0 (lw_Z below #[Value.ref b] s) (entryFrame m ([Value.ref b] : List Value).toArray 8) := by
  obtain ⟨hx, hb, hr, hml, hown, hts, hX, hbl, hlocks, hgv⟩ := id C0
  obtain ⟨dC, dI, hKc⟩ := e_classes hts
  obtain ⟨e0, mi, hZ⟩ := e_statics (A := fun q : Nat => s.heap.size ≤ q) hts hgv (fun a ha => Nat.not_le.mpr ha)
  obtain ⟨ta, ta0, ta1, hKa⟩ := e_arrays hts e0 mi
  obtain ⟨I, hS, hE⟩ := hI ta
  refine W_room (R := xR 40 603072 7153770) (by decide) (by decide) (by decide) (by decide) ?_
  have hl := lv_entry ([.ref b]) (n := 8) (Nat.le_of_ble_eq_true rfl)
  rw [lg_entry_eq]
  generalize (lg_sl ([.ref b]) ++ List.replicate (8 - (lg_sl ([.ref b])).length) Slot.unset).toArray = ls at hl ⊢
  have hl : lv_has ls 8 [(0, .ref b)] := hl
  have G : XO ((p, l, e, xR 40 603072 7153770, s, m, #[Value.ref b], below, meth, c, lw_Z below #[Value.ref b] s, (fun q : Nat => s.heap.size ≤ q), (dC, dI), ta) : XG) RX0 cL_law 8 40 603072 7153770 := ⟨hx, hb, hml, hown, fun w hw => hts w (lw_all_tbl hw), rfl, hlocks, ⟨⟨hKc, hKa⟩, e_words hts hgv, hZ ta ta0 ta1⟩, fun q hq => hq, by show (!l.flags.contains noTraceFlag) = false; rw [hflags]; decide⟩
  have hXS : XSc ((p, l, e, xR 40 603072 7153770, s, m, #[Value.ref b], below, meth, c, lw_Z below #[Value.ref b] s, (fun q : Nat => s.heap.size ≤ q), (dC, dI), ta) : XG) b L xs := ⟨hX, hbl, Nat.not_le.mpr hbl⟩
  have hP : va_P (dC, dI) xCl [] s.heap := fun k q h => by simp at h
  have hD : va_D (fun q : Nat => s.heap.size ≤ q) [] := ⟨fun i j p q h => by simp at h, fun k q h => by simp at h⟩
  refine kL_law G hXS hL hS hE (fun lv ws k n hk hn => ?_) hD s.heap [] ls hl hP va_S.rf
  intro hD2 H locs ls2 hl2 hP2 hS2
  show W p l e (xR 40 603072 7153770) s m #[Value.ref b] below meth c H locs k n (lw_Z below #[Value.ref b] s) (F0 m 2309 ls2 [.int 1])
  refine va_forget (fun q hq => hS2.2.2 q hq) ?_
  refine W.widen hk hn ?_
  exact lw_retR hx hb hr hlocks dL_law_2309
