/-! the model's next order. By hand (gen/266.orders2.src.txt) -/
/-- the model's array holds the order l -/
def o_rel (n : Nat) (l : List Nat) (o : Nat → Int32) : Prop := l.length = n ∧ ∀ k, k < n → o k = Int32.ofNat (o_at l k) ∧ o_at l k < n
theorem o_set {l : List Nat} {i x k : Nat} (hi : i < l.length) : o_at (l.set i x) k = if i = k then x else o_at l k := by
  unfold o_at
  rw [List.getD_eq_getElem?_getD, List.getD_eq_getElem?_getD, List.getElem?_set]
  by_cases c : i = k
  · rw [if_pos c, if_pos c, if_pos hi]
    rfl
  · rw [if_neg c, if_neg c]
theorem o_sw_len {l : List Nat} {i j : Nat} : (o_sw l i j).length = l.length := by
  unfold o_sw
  rw [List.length_set, List.length_set]
theorem q3_swap {n i j : Nat} {l : List Nat} {o : Nat → Int32} {K : (Nat → Int32) → Prop} (h : o_rel n l o) (hn : n ≤ 60) (hi : i < n) (hj : j < n) (hK : ∀ o', o_rel n (o_sw l i j) o' → K o') : wX3_swap (Int32.ofNat i) (Int32.ofNat j) o K := by
  obtain ⟨h1, h2⟩ := h
  refine ⟨w_in (by omega) (by omega), fun x1 e1 => ⟨w_in (by omega) (by omega), fun x2 e2 => ⟨w_in (by omega) (by omega), fun o3 e3 => ⟨w_in (by omega) (by omega), fun o4 e4 => hK o4 ⟨by rw [o_sw_len, h1], fun k hk => ?_⟩⟩⟩⟩⟩
  rw [w_cl (by omega)] at e1 e2 e3 e4
  have s : o_at (o_sw l i j) k = if j = k then o_at l i else if i = k then o_at l j else o_at l k := by
    unfold o_sw
    rw [o_set (by rw [List.length_set]; omega), o_set (by omega)]
  rw [s]
  by_cases c : j = k
  · rw [if_pos c, e4, c, p_upd_eq, e1]
    exact h2 i hi
  · rw [if_neg c, e4, p_upd_ne (fun q => c q.symm)]
    by_cases d : i = k
    · rw [if_pos d, e3, d, p_upd_eq, e2]
      exact h2 j hj
    · rw [if_neg d, e3, p_upd_ne (fun q => d q.symm)]
      exact h2 k hk
theorem o_4_le {l : List Nat} : ∀ j, o_4 l j ≤ j
  | 0 => Nat.le_refl 0
  | j + 1 => by
    unfold o_4
    have := o_4_le (l := l) j
    split <;> omega
theorem q3_nx_4 {n : Nat} {l : List Nat} {o : Nat → Int32} (h : o_rel n l o) (hn : n ≤ 60) {X : Int32 → Prop} : ∀ j : Nat, j < n → (∀ x, x = Int32.ofNat (o_4 l j) - 1 → X x) → ∀ m, wX3_nextOrder_L4 o X (m + j + 1) (Int32.ofNat j - 1) := by
  have z0 : (0 : Int32).toInt = 0 := rfl
  intro j
  induction j with
  | zero =>
    intro _ hX m
    refine ⟨fun _ => hX _ rfl, fun c => absurd (by decide) c⟩
  | succ j ih =>
    intro hj hX m
    have e : Int32.ofNat (j + 1) - 1 = Int32.ofNat j := by
      rw [← w_suc, Int32.add_sub_cancel]
    rw [show m + (j + 1) + 1 = (m + j + 1) + 1 by omega, e]
    unfold wX3_nextOrder_L4
    rw [w_suc, w_cl (by omega), w_cl (by omega), (h.2 j (by omega)).1, (h.2 (j + 1) (by omega)).1]
    have b1 := (h.2 j (by omega)).2
    have b2 := (h.2 (j + 1) (by omega)).2
    refine ⟨fun c => ?_, fun _ => ⟨w_in (by omega) (by omega), w_in (by omega) (by omega), fun c => hX _ ?_, fun c x hx => ?_⟩⟩
    · rw [Int32.lt_iff_toInt_lt, nI_int (by omega), z0] at c
      omega
    · have c := (w_leI (by omega) (by omega)).mp c
      rw [show o_4 l (j + 1) = j + 1 by unfold o_4; rw [if_pos c], e]
    · have c : ¬ o_at l j ≤ o_at l (j + 1) := fun q => c ((w_leI (by omega) (by omega)).mpr q)
      rw [hx, show Int32.ofNat j + -1 = Int32.ofNat j - 1 from (Int32.sub_eq_add_neg _ _).symm]
      refine ih (by omega) (fun x hx => hX x ?_) m
      rw [show o_4 l (j + 1) = o_4 l j by rw [o_4, if_neg c]]
      exact hx
theorem o_41_le {l : List Nat} {i : Nat} : ∀ j, o_41 l i j ≤ j
  | 0 => Nat.le_refl 0
  | j + 1 => by
    unfold o_41
    have := o_41_le (l := l) (i := i) j
    split <;> omega
theorem q3_nx_41 {n i : Nat} {l : List Nat} {o : Nat → Int32} (h : o_rel n l o) (hn : n ≤ 60) (hi : i < n) {X : Int32 → Prop} : ∀ j : Nat, i ≤ j → j < n → X (Int32.ofNat (o_41 l i j)) → ∀ m, wX3_nextOrder_L41 o (Int32.ofNat i) X (m + j + 1) (Int32.ofNat j) := by
  intro j
  induction j with
  | zero =>
    intro hij hj hX m
    have e : i = 0 := by omega
    subst e
    exact ⟨w_in (by omega) (by omega), w_in (by omega) (by omega), fun _ => hX, fun c => absurd (Int32.le_refl _) c⟩
  | succ j ih =>
    intro hij hj hX m
    have b1 := (h.2 i hi).2
    have b2 := (h.2 (j + 1) hj).2
    rw [show m + (j + 1) + 1 = (m + j + 1) + 1 by omega]
    unfold wX3_nextOrder_L41
    rw [w_cl (by omega), w_cl (by omega), (h.2 i hi).1, (h.2 (j + 1) hj).1]
    refine ⟨w_in (by omega) (by omega), w_in (by omega) (by omega), fun c => ?_, fun c x hx => ?_⟩
    · have c := (w_leI (by omega) (by omega)).mp c
      rw [show o_41 l i (j + 1) = j + 1 by unfold o_41; rw [if_pos c]] at hX
      exact hX
    · have c : ¬ o_at l i ≤ o_at l (j + 1) := fun q => c ((w_leI (by omega) (by omega)).mpr q)
      have e : Int32.ofNat (j + 1) + -1 = Int32.ofNat j := by
        rw [← w_suc, Int32.add_assoc, show (1 : Int32) + -1 = 0 by decide, Int32.add_zero]
      rw [hx, e]
      refine ih (by
        have : i ≠ j + 1 := fun q => c (by rw [q]; exact Nat.le_refl _)
        omega) (by omega) ?_ m
      rw [show o_41 l i (j + 1) = o_41 l i j by rw [o_41, if_neg c]] at hX
      exact hX
theorem q3_nx_78 {n : Nat} (hn : n ≤ 60) {X : Int32 → Int32 → (Nat → Int32) → Prop} : ∀ (m a b : Nat) (l : List Nat) (o : Nat → Int32), o_rel n l o → a ≤ n → b < n → b ≤ a + m → (∀ x y o', o_rel n (o_78 m a b l) o' → X x y o') → wX3_nextOrder_L78 X (m + 1) (Int32.ofNat a) (Int32.ofNat b) o := by
  intro m
  induction m with
  | zero =>
    intro a b l o h ha hb hab hX
    exact ⟨fun _ => hX _ _ _ h, fun c => absurd (w_leO (by omega) (by omega) (by omega)) c⟩
  | succ m ih =>
    intro a b l o h ha hb hab hX
    by_cases c : b ≤ a
    · refine ⟨fun _ => hX _ _ _ ?_, fun d => absurd (w_leO (by omega) (by omega) c) d⟩
      rw [o_78, if_pos c]
      exact h
    · refine ⟨fun d => absurd d (w_nleO (by omega) (by omega) (by omega)), fun _ => q3_swap h hn (by omega) hb (fun o' h' x hx y hy => ?_)⟩
      have e : Int32.ofNat b + -1 = Int32.ofNat (b - 1) := by
        obtain ⟨c, rfl⟩ : ∃ c, b = c + 1 := ⟨b - 1, by omega⟩
        rw [← w_suc, Int32.add_assoc, show (1 : Int32) + -1 = 0 by decide, Int32.add_zero]
        rfl
      rw [hx, hy, w_suc, e]
      refine ih (a + 1) (b - 1) _ o' h' (by omega) (by omega) (by omega) (fun x y o'' h'' => hX x y o'' ?_)
      rw [o_78, if_neg c]
      exact h''
theorem q3_next {n : Nat} {l : List Nat} {o : Nat → Int32} (h : o_rel n l o) (hn : n ≤ 60) {K : Int32 → (Nat → Int32) → Prop} (k0 : o_nx n l = none → K 0 o) (k1 : ∀ l' o', o_nx n l = some l' → o_rel n l' o' → K 1 o') : wX3_nextOrder (Int32.ofNat n) o K := by
  have z0 : (0 : Int32).toInt = 0 := rfl
  intro x1 e1
  by_cases c0 : n = 0
  · subst c0
    refine ⟨1, ?_⟩
    rw [e1]
    refine ⟨fun _ => ?_, fun c => absurd (by decide) c⟩
    exact ⟨fun c => absurd c (by decide), fun _ => k0 rfl⟩
  · have e2 : Int32.ofNat n - 2 = Int32.ofNat (n - 1) - 1 := by
      obtain ⟨m, rfl⟩ : ∃ m, n = m + 1 := ⟨n - 1, by omega⟩
      rw [← w_suc, Nat.add_sub_cancel, Int32.sub_eq_add_neg, Int32.add_assoc, Int32.sub_eq_add_neg, show (1 : Int32) + -2 = -1 by decide]
    refine ⟨0 + (n - 1) + 1, ?_⟩
    rw [e1, e2]
    refine q3_nx_4 h hn (n - 1) (by omega) (fun x hx => ?_) 0
    have hle := o_4_le (l := l) (n - 1)
    unfold o_nx at k0 k1
    generalize o_4 l (n - 1) = q at hx hle k0 k1
    cases q with
    | zero =>
      rw [hx]
      exact ⟨fun c => absurd c (by decide), fun _ => k0 rfl⟩
    | succ i =>
      have ei : Int32.ofNat (i + 1) - 1 = Int32.ofNat i := by rw [← w_suc, Int32.add_sub_cancel]
      have en : Int32.ofNat n - 1 = Int32.ofNat (n - 1) := by
        obtain ⟨m, rfl⟩ : ∃ m, n = m + 1 := ⟨n - 1, by omega⟩
        rw [← w_suc, Int32.add_sub_cancel]
        rfl
      rw [ei] at hx
      subst hx
      refine ⟨fun _ x7 e7 => ⟨0 + (n - 1) + 1, ?_⟩, fun c => absurd ?_ c⟩
      · rw [e7, en]
        have h41 := o_41_le (l := l) (i := i) (n - 1)
        refine q3_nx_41 h hn (by omega) (n - 1) (by omega) (by omega) (q3_swap h hn (by omega) (by omega) (fun o' h' x hx y hy => ⟨n + 1, ?_⟩)) 0
        rw [hx, hy, w_suc]
        exact q3_nx_78 hn n (i + 1) (n - 1) _ o' h' (by omega) (by omega) (by omega) (fun _ _ o'' h'' => k1 _ o'' rfl h'')
      · rw [Int32.le_iff_toInt_le, nI_int (by omega), z0]
        omega
