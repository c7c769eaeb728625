/-! RoundingAuditor's methods over its whole world. Printed by gen/lift.py -/
theorem XSub.ofSS {Ss S' : List va_W} (is : List Nat) (hs : is.map (fun i => Ss[i]?) = S'.map some) (hn : va_nd is = true) : XSub Ss.flatten S'.flatten := by
  have hm : ∀ s ∈ S', s ∈ Ss := by
    intro s hs'
    obtain ⟨j, hj⟩ := List.getElem?_of_mem hs'
    have h1 : (is.map (fun i => Ss[i]?))[j]? = some (some s) := by rw [hs, List.getElem?_map, hj]; rfl
    rw [List.getElem?_map] at h1
    cases hi : is[j]? with
    | none => rw [hi] at h1; cases h1
    | some i => rw [hi] at h1; exact List.mem_of_getElem? (Option.some.inj h1)
  refine ⟨fun q hq => ?_, fun A hD => ?_⟩
  · obtain ⟨s, h1, h2⟩ := List.mem_flatten.mp hq
    exact List.mem_flatten.mpr ⟨s, hm s h1, h2⟩
  · rw [va_D.iff] at hD ⊢
    obtain ⟨h1, h2⟩ := hD
    refine ⟨?_, fun q hq => ?_⟩
    · rw [List.map_flatten, List.nodup_iff_pairwise_ne, List.pairwise_flatten] at h1 ⊢
      obtain ⟨ha, hb⟩ := h1
      refine ⟨fun z hz => ?_, ?_⟩
      · obtain ⟨s, h3, rfl⟩ := List.mem_map.mp hz
        exact ha _ (List.mem_map_of_mem (hm s h3))
      · rw [List.pairwise_iff_getElem] at hb ⊢
        intro i j hi hj hij x hx y hy hxy
        rw [List.length_map] at hi hj
        rw [List.getElem_map] at hx hy
        have ei : (is.map (fun i => Ss[i]?))[i]? = some (some S'[i]) := by rw [hs, List.getElem?_map, List.getElem?_eq_getElem hi]; rfl
        have ej : (is.map (fun i => Ss[i]?))[j]? = some (some S'[j]) := by rw [hs, List.getElem?_map, List.getElem?_eq_getElem hj]; rfl
        rw [List.getElem?_map] at ei ej
        cases hi' : is[i]? with
        | none => rw [hi'] at ei; cases ei
        | some a =>
          cases hj' : is[j]? with
          | none => rw [hj'] at ej; cases ej
          | some b =>
            rw [hi'] at ei
            rw [hj'] at ej
            have ei := Option.some.inj ei
            have ej := Option.some.inj ej
            obtain ⟨ha', hae⟩ := List.getElem?_eq_some_iff.mp ei
            obtain ⟨hb', hbe⟩ := List.getElem?_eq_some_iff.mp ej
            rw [← hae] at hx
            rw [← hbe] at hy
            have hne : a ≠ b := by
              intro hab
              subst hab
              have := va_nd_inj is hn _ _ _ hi' hj'
              omega
            rcases Nat.lt_or_gt_of_ne hne with hl | hl
            · exact hb a b (by rw [List.length_map]; exact ha') (by rw [List.length_map]; exact hb') hl x (by rw [List.getElem_map]; exact hx) y (by rw [List.getElem_map]; exact hy) hxy
            · exact hb b a (by rw [List.length_map]; exact hb') (by rw [List.length_map]; exact ha') hl y (by rw [List.getElem_map]; exact hy) x (by rw [List.getElem_map]; exact hx) hxy.symm
    · obtain ⟨s, h3, h4⟩ := List.mem_flatten.mp hq
      exact h2 q (List.mem_flatten.mpr ⟨s, hm s h3, h4⟩)
theorem XSub.ofA {Ss Sr Sc : List va_W} (is : List Nat) (hs : is.map (fun i => Ss[i]?) = (Sr ++ Sc).map some) (hn : va_nd is = true) : XSub Ss.flatten (Sr.flatten ++ Sc.flatten) := by rw [← List.flatten_append]; exact XSub.ofSS is hs hn
theorem XSub.ofB {S' Sr Sc : List va_W} (is : List Nat) (hs : is.map (fun i => (Sr ++ Sc)[i]?) = S'.map some) (hn : va_nd is = true) : XSub (Sr.flatten ++ Sc.flatten) S'.flatten := by rw [← List.flatten_append]; exact XSub.ofSS is hs hn
theorem XSub.app {a a' b b' : va_W} (h : XSub a a') (h' : XSub b b') : XSub (a ++ b) (a' ++ b') := ⟨fun q hq => (List.mem_append.mp hq).elim (fun z => List.mem_append_left _ (h.1 q z)) (fun z => List.mem_append_right _ (h'.1 q z)), fun A hD => by
  rw [va_D.iff] at hD ⊢
  rw [List.map_append] at hD ⊢
  obtain ⟨h1, h2, h3⟩ := List.nodup_append.mp hD.1
  have ha := va_D.iff.mp (h.2 A (va_D.iff.mpr ⟨h1, fun q hq => hD.2 q (List.mem_append_left _ hq)⟩))
  have hb := va_D.iff.mp (h'.2 A (va_D.iff.mpr ⟨h2, fun q hq => hD.2 q (List.mem_append_right _ hq)⟩))
  refine ⟨List.nodup_append.mpr ⟨ha.1, hb.1, fun x hx y hy => ?_⟩, fun q hq => (List.mem_append.mp hq).elim (ha.2 q) (hb.2 q)⟩
  obtain ⟨p, hp, rfl⟩ := List.mem_map.mp hx
  obtain ⟨q, hq, rfl⟩ := List.mem_map.mp hy
  exact h3 _ (List.mem_map_of_mem (h.1 p hp)) _ (List.mem_map_of_mem (h'.1 q hq))⟩
theorem XSub.opn (P Q : List va_W) {s : va_W} {S' : List va_W} (h : XSub s S'.flatten) : XSub (P ++ s :: Q).flatten (P ++ (S' ++ Q)).flatten := by
  simp only [List.flatten_append, List.flatten_cons]
  exact XSub.app XSub.rf (XSub.app h XSub.rf)
theorem XSub.cls (P Q : List va_W) {s : va_W} {S' : List va_W} (h : XSub S'.flatten s) : XSub (P ++ (S' ++ Q)).flatten (P ++ s :: Q).flatten := by
  simp only [List.flatten_append, List.flatten_cons]
  exact XSub.app XSub.rf (XSub.app h XSub.rf)
/-- ledgers, tapes -/
abbrev Led : Type := (Nat × Nat × Nat × Nat × Nat) × Bool × Int32 × Nat × (Nat → Int32) × (Nat → Int32) × (Nat → Int32) × (Nat → UInt64)
abbrev lU (L : Led) : Nat := L.1.1
abbrev lUa (L : Led) : Nat := L.1.2.1
abbrev lUd (L : Led) : Nat := L.1.2.2.1
abbrev lUg (L : Led) : Nat := L.1.2.2.2.1
abbrev lUm (L : Led) : Nat := L.1.2.2.2.2
abbrev lK (L : Led) : Bool := L.2.1
abbrev lGc (L : Led) : Int32 := L.2.2.1
abbrev lLn (L : Led) : Nat := L.2.2.2.1
abbrev lAc (L : Led) : Nat → Int32 := L.2.2.2.2.1
abbrev lDa (L : Led) : Nat → Int32 := L.2.2.2.2.2.1
abbrev lGi (L : Led) : Nat → Int32 := L.2.2.2.2.2.2.1
abbrev lAm (L : Led) : Nat → UInt64 := L.2.2.2.2.2.2.2
abbrev Tp : Type := (Nat × Nat × Nat × Nat) × (Int32 × Int32 × Int32 × UInt64) × Nat × (Nat → UInt64) × (Nat → UInt64) × (Nat → UInt64)
abbrev tA (t : Tp) : Nat := t.1.1
abbrev tAl (t : Tp) : Nat := t.1.2.1
abbrev tAr (t : Tp) : Nat := t.1.2.2.1
abbrev tAs (t : Tp) : Nat := t.1.2.2.2
abbrev tW (t : Tp) : Int32 := t.2.1.1
abbrev tY (t : Tp) : Int32 := t.2.1.2.1
abbrev tC (t : Tp) : Int32 := t.2.1.2.2.1
abbrev tTt (t : Tp) : UInt64 := t.2.1.2.2.2
abbrev tNn (t : Tp) : Nat := t.2.2.1
abbrev tLl (t : Tp) : Nat → UInt64 := t.2.2.2.1
abbrev tRr (t : Tp) : Nat → UInt64 := t.2.2.2.2.1
abbrev tSs (t : Tp) : Nat → UInt64 := t.2.2.2.2.2
def kL0 (L : Led) : va_W := [(lU L, .inr (lci (lK L), [.ref (lUa L), .ref (lUd L), .ref (lUg L), .int (lGc L), .ref (lUm L)]))]
def kLa (T : Nat → ClassId) (L : Led) : va_W := [(lUa L, .inl (T 1, lLn L, .inl (lAc L)))]
def kLd (T : Nat → ClassId) (L : Led) : va_W := [(lUd L, .inl (T 1, lLn L, .inl (lDa L)))]
def kLg (T : Nat → ClassId) (L : Led) : va_W := [(lUg L, .inl (T 1, lLn L, .inl (lGi L)))]
def kLm (T : Nat → ClassId) (L : Led) : va_W := [(lUm L, .inl (lamC (lK L) T (lLn L) (lAm L)))]
def ledS (T : Nat → ClassId) (L : Led) : List va_W := [kL0 L, kLa T L, kLd T L, kLg T L, kLm T L]
def kT0 (t : Tp) : va_W := [(tA t, .inr (7, [.int (tW t), .int (tY t), .ref (tAl t), .ref (tAr t), .ref (tAs t), .int (tC t), .double (tTt t)]))]
def kTl (T : Nat → ClassId) (t : Tp) : va_W := [(tAl t, .inl (T 5, tNn t, .inr (.inr (.inr (.inl (tLl t))))))]
def kTr (T : Nat → ClassId) (t : Tp) : va_W := [(tAr t, .inl (T 5, tNn t, .inr (.inr (.inr (.inl (tRr t))))))]
def kTs (T : Nat → ClassId) (t : Tp) : va_W := [(tAs t, .inl (T 5, tNn t, .inr (.inr (.inr (.inl (tSs t))))))]
def tapS (T : Nat → ClassId) (t : Tp) : List va_W := [kT0 t, kTl T t, kTr T t, kTs T t]
def upO {α : Type} (f : Nat → α) (i : Nat) (x : α) : Nat → α := fun j => if j = i then x else f j
def lCell (T : Nat → ClassId) (s : Nat → Option Led) (j : Nat) : va_W := match s j with | none => [] | some L => (ledS T L).flatten
def LW (T : Nat → ClassId) (s : Nat → Option Led) : va_W := ((List.range 12).map (lCell T s)).flatten
def LWx (T : Nat → ClassId) (s : Nat → Option Led) (i : Nat) : va_W := ((List.range 12).map (fun j => if j = i then [] else lCell T s j)).flatten
def LWxx (T : Nat → ClassId) (s : Nat → Option Led) (i k : Nat) : va_W := ((List.range 12).map (fun j => if j = i then [] else if j = k then [] else lCell T s j)).flatten
theorem flat_take {f : Nat → va_W} : ∀ (l : List Nat) (i : Nat), l.Nodup → i ∈ l → ((l.map f).flatten).Perm ((l.map (fun j => if j = i then [] else f j)).flatten ++ f i) := by
  intro l
  induction l with
  | nil => intro i _ h; cases h
  | cons a l ih =>
    intro i hn hi
    obtain ⟨hn1, hn2⟩ := List.nodup_cons.mp hn
    simp only [List.map_cons, List.flatten_cons]
    rcases List.mem_cons.mp hi with rfl | h
    · rw [if_pos rfl]
      have e : l.map (fun j => if j = i then [] else f j) = l.map f := List.map_congr_left fun j hj => by rw [if_neg]; intro e; subst e; exact hn1 hj
      rw [e, List.nil_append]
      exact List.perm_append_comm
    · have hne : ¬ a = i := by intro e; subst e; exact hn1 h
      rw [if_neg hne, List.append_assoc]
      exact List.Perm.append_left _ (ih i hn2 h)
theorem LW_opn {T : Nat → ClassId} {s : Nat → Option Led} {i : Nat} {L : Led} (hi : i < 12) (h : s i = some L) : XSub (LW T s) (LWx T s i :: ledS T L).flatten := by
  have hp := flat_take (f := lCell T s) (List.range 12) i List.nodup_range (List.mem_range.mpr hi)
  have e : lCell T s i = (ledS T L).flatten := by unfold lCell; rw [h]
  rw [e] at hp
  exact XSub.perm hp
theorem LW_clo {T : Nat → ClassId} {s : Nat → Option Led} {i : Nat} (L' : Led) (hi : i < 12) : XSub (LWx T s i :: ledS T L').flatten (LW T (upO s i (some L'))) := by
  have hp := flat_take (f := lCell T (upO s i (some L'))) (List.range 12) i List.nodup_range (List.mem_range.mpr hi)
  have e : lCell T (upO s i (some L')) i = (ledS T L').flatten := by unfold lCell upO; rw [if_pos rfl]
  have e2 : (List.range 12).map (fun j => if j = i then [] else lCell T (upO s i (some L')) j) = (List.range 12).map (fun j => if j = i then [] else lCell T s j) := List.map_congr_left fun j _ => by
    by_cases hj : j = i
    · rw [if_pos hj, if_pos hj]
    · rw [if_neg hj, if_neg hj]; unfold lCell upO; rw [if_neg hj]
  rw [e, e2] at hp
  exact XSub.perm hp.symm
theorem LW_clo0 {T : Nat → ClassId} {s : Nat → Option Led} {i : Nat} {L : Led} (hi : i < 12) (h : s i = some L) : XSub (LWx T s i :: ledS T L).flatten (LW T s) := by
  have hp := flat_take (f := lCell T s) (List.range 12) i List.nodup_range (List.mem_range.mpr hi)
  have e : lCell T s i = (ledS T L).flatten := by unfold lCell; rw [h]
  rw [e] at hp
  exact XSub.perm hp.symm
theorem LW_new {T : Nat → ClassId} {s : Nat → Option Led} {i : Nat} (L' : Led) (hi : i < 12) : XSub (LW T s :: ledS T L').flatten (LW T (upO s i (some L'))) := by
  have hp := flat_take (f := lCell T s) (List.range 12) i List.nodup_range (List.mem_range.mpr hi)
  rw [List.flatten_cons]
  refine XSub.trans (XSub.app ((XSub.perm hp).trans XSub.left) XSub.rf) ?_
  exact LW_clo L' hi
theorem LW_opn2 {T : Nat → ClassId} {s : Nat → Option Led} {i k : Nat} {L M : Led} (hi : i < 12) (hk : k < 12) (hne : ¬ i = k) (h : s i = some L) (h2 : s k = some M) : (LW T s).Perm (LWxx T s i k :: (ledS T L ++ ledS T M)).flatten := by
  have hp := flat_take (f := lCell T s) (List.range 12) i List.nodup_range (List.mem_range.mpr hi)
  have hp2 := flat_take (f := fun j => if j = i then [] else lCell T s j) (List.range 12) k List.nodup_range (List.mem_range.mpr hk)
  have e : lCell T s i = (ledS T L).flatten := by unfold lCell; rw [h]
  have e2 : (if k = i then ([] : va_W) else lCell T s k) = (ledS T M).flatten := by rw [if_neg (fun z => hne z.symm)]; unfold lCell; rw [h2]
  have e3 : (List.range 12).map (fun j => if j = k then [] else (fun j => if j = i then ([] : va_W) else lCell T s j) j) = (List.range 12).map (fun j => if j = i then [] else if j = k then [] else lCell T s j) := List.map_congr_left fun j _ => by
    show (if j = k then _ else if j = i then _ else _) = _
    by_cases a : j = i <;> by_cases b : j = k <;> simp [a, b]
  rw [e3] at hp2
  rw [e] at hp
  rw [e2] at hp2
  refine hp.trans ?_
  rw [List.flatten_cons, List.flatten_append]
  refine (List.Perm.append_right _ hp2).trans ?_
  rw [List.append_assoc]
  exact List.Perm.append_left _ List.perm_append_comm
def TW (T : Nat → ClassId) (ts : List Tp) : va_W := (ts.map (fun t => (tapS T t).flatten)).flatten
def TWx (T : Nat → ClassId) (ts : List Tp) (i : Nat) : va_W := TW T (ts.eraseIdx i)
theorem TW_perm {T : Nat → ClassId} {ts ts' : List Tp} (h : ts.Perm ts') : (TW T ts).Perm (TW T ts') := (h.map _).flatten
theorem er_perm {α : Type} : ∀ {l : List α} {i : Nat} {a : α}, l[i]? = some a → l.Perm (l.eraseIdx i ++ [a]) := by
  intro l
  induction l with
  | nil => intro i a h; simp at h
  | cons b l ih =>
    intro i a h
    cases i with
    | zero => simp at h; subst h; exact (List.perm_append_comm (l₁ := [b]) (l₂ := l))
    | succ i => simp only [List.getElem?_cons_succ] at h; simp only [List.eraseIdx_cons_succ, List.cons_append]; exact (ih h).cons b
theorem TW_app {T : Nat → ClassId} {ts : List Tp} {t : Tp} : TW T (ts ++ [t]) = (TW T ts :: tapS T t).flatten := by
  unfold TW; rw [List.map_append, List.flatten_append, List.flatten_cons]; simp
theorem TW_opn {T : Nat → ClassId} {ts : List Tp} {i : Nat} {t : Tp} (h : ts[i]? = some t) : (TW T ts).Perm (TWx T ts i :: tapS T t).flatten := by
  have h1 := TW_perm (T := T) (er_perm h)
  rw [TW_app] at h1
  exact h1
def TWxx (T : Nat → ClassId) (ts : List Tp) (i k : Nat) : va_W := TW T ((ts.eraseIdx i).eraseIdx (if k < i then k else k - 1))
theorem TW_opn2 {T : Nat → ClassId} {ts : List Tp} {i k : Nat} {t u : Tp} (hne : ¬ i = k) (h : ts[i]? = some t) (h2 : ts[k]? = some u) : (TW T ts).Perm (TWxx T ts i k :: (tapS T t ++ tapS T u)).flatten := by
  have h3 : (ts.eraseIdx i)[if k < i then k else k - 1]? = some u := by
    rw [List.getElem?_eraseIdx]
    by_cases hk : k < i
    · rw [if_pos hk, if_pos hk]; exact h2
    · rw [if_neg hk, if_neg (by omega), show k - 1 + 1 = k by omega]; exact h2
  refine (TW_opn h).trans ?_
  rw [List.flatten_cons, List.flatten_cons, List.flatten_append]
  refine (List.Perm.append_right _ (TW_opn h3)).trans ?_
  rw [List.flatten_cons, List.append_assoc]
  exact List.Perm.append_left _ List.perm_append_comm
/-- the state: ledgers, tapes, the array of ledgers, the list, exact numbers, shares -/
abbrev CS : Type := (Nat → Option Led) × List Tp × (Nat → Option Nat) × (Int32 × Int32 × Option (Nat × Nat × (Nat → Option Nat))) × (Nat → Int32) × (Nat → Int32) × (Nat → Int32) × (Nat → Int32)
abbrev cS (c : CS) : Nat → Option Led := c.1
abbrev cT (c : CS) : List Tp := c.2.1
abbrev cG (c : CS) : Nat → Option Nat := c.2.2.1
abbrev cLm (c : CS) : Int32 := c.2.2.2.1.1
abbrev cLz (c : CS) : Int32 := c.2.2.2.1.2.1
abbrev cLa (c : CS) : Option (Nat × Nat × (Nat → Option Nat)) := c.2.2.2.1.2.2
abbrev cW1 (c : CS) : Nat → Int32 := c.2.2.2.2.1
abbrev cW2 (c : CS) : Nat → Int32 := c.2.2.2.2.2.1
abbrev cW3 (c : CS) : Nat → Int32 := c.2.2.2.2.2.2.1
abbrev cSh (c : CS) : Nat → Int32 := c.2.2.2.2.2.2.2
def rlE (T : Nat → ClassId) (la : Option (Nat × Nat × (Nat → Option Nat))) : Nat := match la with | none => T 20 | some x => x.1
def kX (h0 : Nat) (ca : Nat → Nat) (cur : Int32) : va_W := [(h0, .inr (0, [.ref (ca 0), .ref (ca 1), .ref (ca 2), .ref (ca 3), .ref (ca 4), .int cur, .ref (ca 5)]))]
def kG (ca : Nat → Nat) (T : Nat → ClassId) (g : Nat → Option Nat) : va_W := [(ca 0, .inl (T 6, 12, .inr (.inr (.inr (.inr g)))))]
def kE (a b : Nat) : va_W := [(a, .inr (1, [.ref b]))]
def kEw (T : Nat → ClassId) (b : Nat) (w : Nat → Int32) : va_W := [(b, .inl (T 2, 40, .inl w))]
def kR (ca : Nat → Nat) (T : Nat → ClassId) (lm lz : Int32) (la : Option (Nat × Nat × (Nat → Option Nat))) : va_W := [(ca 4, .inr (2, [.int lm, .ref (rlE T la), .int lz]))]
def kA (T : Nat → ClassId) (la : Option (Nat × Nat × (Nat → Option Nat))) : va_W := match la with | none => [] | some x => [(x.1, .inl (T 8, x.2.1, .inr (.inr (.inr (.inr x.2.2)))))]
def kS (ca : Nat → Nat) (T : Nat → ClassId) (f : Nat → Int32) : va_W := [(ca 5, .inl (T 2, 10, .inl f))]
def CR (ca : Nat → Nat) (T : Nat → ClassId) (c : CS) : va_W := List.flatten [kG ca T (cG c), kE (ca 1) (ca 6), kEw T (ca 6) (cW1 c), kE (ca 2) (ca 7), kEw T (ca 7) (cW2 c), kE (ca 3) (ca 8), kEw T (ca 8) (cW3 c), kR ca T (cLm c) (cLz c) (cLa c), kA T (cLa c), kS ca T (cSh c), LW T (cS c), TW T (cT c)]
def CW (h0 : Nat) (ca : Nat → Nat) (T : Nat → ClassId) (cur : Int32) (c : CS) : va_W := kX h0 ca cur ++ CR ca T c
