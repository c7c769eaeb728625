/-! totals in an order. By hand (gen/268.orders3.src.txt) -/
def p_of (s : LSt) (i : Nat) (k : Bool) (acc : UInt64) (t : List Nat) : UInt64 := t.foldl (fun a y => z_ad k a (s.amountOf (60 * i + y))) acc
def p_ot (s : LSt) (i : Nat) (k : Bool) (t : List Nat) : UInt64 := match t with
  | [] => FP.dconst0
  | x :: u => p_of s i k (s.amountOf (60 * i + x)) u
theorem p_add1 {k : Bool} {a b : UInt64} {n : Nat} (ha : zk k a) (hb : zk k b) (hn : n ≤ 100) (h1 : (zV a).natAbs ≤ n * 2 ^ 1174) (h2 : (zV b).natAbs ≤ 2 ^ 1174) : zk k (z_ad k a b) ∧ (zV (z_ad k a b)).natAbs ≤ (n + 1) * 2 ^ 1174 := by
  have e1 : (100 + 1) * 2 ^ 1174 ≤ 2 ^ 1200 := by
    refine Nat.le_trans (Nat.mul_le_mul_right _ (show 100 + 1 ≤ 2 ^ 7 by decide)) ?_
    rw [← Nat.pow_add]
    exact Nat.pow_le_pow_right (by decide) (by decide)
  have e2 : n * 2 ^ 1174 ≤ 100 * 2 ^ 1174 := Nat.mul_le_mul_right _ hn
  obtain ⟨s1, s2, -⟩ := z_ad_sp ha hb (by omega) (by omega)
  refine ⟨s1, ?_⟩
  rw [s2]
  exact z_kr_le (by omega) (by decide) (by rw [Nat.add_mul, Nat.one_mul]; omega)
theorem p_of_le {s : LSt} {i : Nat} {A : Led} (h : RLd s i A) : ∀ (t : List Nat) (acc : UInt64) (n : Nat), zk (lK A) acc → (zV acc).natAbs ≤ n * 2 ^ 1174 → n + t.length ≤ 100 → (∀ y, y ∈ t → y < lLn A) → zk (lK A) (p_of s i (lK A) acc t) ∧ (zV (p_of s i (lK A) acc t)).natAbs ≤ (n + t.length) * 2 ^ 1174 := by
  intro t
  induction t with
  | nil =>
    intro acc n ha hb _ _
    exact ⟨ha, hb⟩
  | cons y t ih =>
    intro acc n ha hb hn hy
    have hl : (y :: t).length = t.length + 1 := rfl
    have am := p_amt h (hy y List.mem_cons_self)
    obtain ⟨a1, a2⟩ := p_add1 ha am.1 (by omega) hb am.2
    have := ih (z_ad (lK A) acc (s.amountOf (60 * i + y))) (n + 1) a1 a2 (by omega) (fun z hz => hy z (List.mem_cons_of_mem _ hz))
    rw [hl, show n + (t.length + 1) = n + 1 + t.length by omega]
    exact this
theorem o_drop {l : List Nat} {k : Nat} (h : k < l.length) : l.drop k = o_at l k :: l.drop (k + 1) := by
  rw [List.drop_eq_getElem_cons h]
  unfold o_at
  rw [List.getD_eq_getElem?_getD, List.getElem?_eq_getElem h]
  rfl
theorem q3_of_L {s : LSt} {i : Nat} {A : Led} (hi : i < 12) (h : RLd s i A) {n : Nat} {l : List Nat} {o : Nat → Int32} (hr : o_rel n l o) (hnA : n = lLn A) {wide : Int32} (hw : wide = 0 ↔ lK A = false) {X : UInt64 → Int32 → Prop} : ∀ (m k : Nat), k + m = n → ∀ acc : UInt64, zk (lK A) acc → (zV acc).natAbs ≤ k * 2 ^ 1174 → (∀ v, X (p_of s i (lK A) acc (l.drop k)) v) → wX3_ofOrder_L28 s.amountOf wide o (Int32.ofNat i) (Int32.ofNat n) X (m + 1) acc (Int32.ofNat k) := by
  have hn := h.1
  intro m
  induction m with
  | zero =>
    intro k hk acc ha hb hX
    have e : k = n := by omega
    subst e
    rw [List.drop_of_length_le (by rw [hr.1]; exact Nat.le_refl _)] at hX
    exact ⟨fun _ => hX _, fun c => absurd (Int32.le_refl _) c⟩
  | succ m ih =>
    intro k hk acc ha hb hX
    have hk2 : k < n := by omega
    obtain ⟨o1, o2⟩ := hr.2 k hk2
    have am := p_amt h (show o_at l k < lLn A by omega)
    obtain ⟨i1, i2⟩ := p_60 hi (show o_at l k < 60 by omega)
    obtain ⟨a1, a2⟩ := p_add1 (n := k) ha am.1 (by omega) hb am.2
    have big : 100 * 2 ^ 1174 ≤ 2 ^ 1200 := by
      refine Nat.le_trans (Nat.mul_le_mul_right _ (show 100 ≤ 2 ^ 7 by decide)) ?_
      rw [← Nat.pow_add]
      exact Nat.pow_le_pow_right (by decide) (by decide)
    have e2 : k * 2 ^ 1174 ≤ 100 * 2 ^ 1174 := Nat.mul_le_mul_right _ (by omega)
    have e3 : (2 : Nat) ^ 1174 ≤ 2 ^ 1200 := Nat.pow_le_pow_right (by decide) (by decide)
    refine ⟨fun c => absurd c (w_nleO (by omega) (by omega) hk2), fun _ => ?_⟩
    rw [w_cl (by omega), o1, i2]
    refine ⟨w_in (by omega) (by omega), i1, q3_sum hw ha am.1 (Nat.le_trans hb (Nat.le_trans e2 big)) (Nat.le_trans am.2 e3) (fun x hx => ?_)⟩
    rw [hx, w_suc]
    refine ih (k + 1) (by omega) _ a1 a2 (fun v => ?_)
    have := hX v
    rw [o_drop (by rw [hr.1]; exact hk2)] at this
    exact this
theorem q3_ofOrder {s : LSt} {i : Nat} {A : Led} (hi : i < 12) (h : RLd s i A) {n : Nat} {l : List Nat} {o : Nat → Int32} (hr : o_rel n l o) (hnA : n = lLn A) {wide : Int32} (hw : wide = 0 ↔ lK A = false) {K : UInt64 → Prop} (hK : K (p_ot s i (lK A) l)) : wX3_ofOrder (Int32.ofNat i) (Int32.ofNat n) s.amountOf wide o K := by
  have hn := h.1
  refine ⟨fun c => ?_, fun c => ?_⟩
  · have c0 : 0 < n := by
      refine Nat.pos_of_ne_zero (fun q => c ?_)
      rw [q]
      rfl
    obtain ⟨o1, o2⟩ := hr.2 0 c0
    have am := p_amt h (show o_at l 0 < lLn A by omega)
    obtain ⟨i1, i2⟩ := p_60 hi (show o_at l 0 < 60 by omega)
    rw [show (0 : Int32).toNatClampNeg = 0 from rfl, o1, i2]
    refine ⟨vp_in_iff.mpr (by decide), i1, n - 1 + 1, q3_of_L hi h hr hnA hw (n - 1) 1 (by omega) _ am.1 (by rw [Nat.one_mul]; exact am.2) (fun v => ?_)⟩
    have e : l = o_at l 0 :: l.drop 1 := by
      have := o_drop (l := l) (k := 0) (by rw [hr.1]; exact c0)
      rw [List.drop_zero] at this
      exact this
    rw [e] at hK
    exact hK
  · have c0 : n = 0 := by
      have := congrArg Int32.toInt c
      rw [nI_int (by omega)] at this
      have z : (0 : Int32).toInt = 0 := rfl
      omega
    subst c0
    have e : l = [] := List.length_eq_zero_iff.mp hr.1
    rw [e] at hK
    exact ⟨1, fun _ => hK, fun q => absurd (by decide) q⟩
theorem o_at_range {n k : Nat} (h : k < n) : o_at (List.range n) k = k := by
  unfold o_at
  rw [List.getD_eq_getElem?_getD, List.getElem?_range h]
  rfl
theorem q3_first_L {s : LSt} {i : Nat} {A : Led} (hi : i < 12) (h : RLd s i A) {X : Int32 → (Nat → Int32) → Prop} (hX : ∀ v o, o_rel (lLn A) (List.range (lLn A)) o → X v o) : ∀ (m k : Nat), k + m = lLn A → ∀ o : Nat → Int32, (∀ j, j < k → o j = Int32.ofNat j) → wX3_firstOrder_L12 s.many (Int32.ofNat i) X (m + 1) (Int32.ofNat k) o := by
  have hn := h.1
  have hm := h.2.1
  intro m
  induction m with
  | zero =>
    intro k hk o ho
    have e : k = lLn A := by omega
    subst e
    unfold wX3_firstOrder_L12
    rw [w_cl (by omega), hm]
    exact ⟨w_in hi (by omega), fun _ => hX _ _ ⟨List.length_range, fun j hj => by rw [o_at_range hj]; exact ⟨ho j hj, hj⟩⟩, fun c => absurd (Int32.le_refl _) c⟩
  | succ m ih =>
    intro k hk o ho
    unfold wX3_firstOrder_L12
    rw [w_cl (by omega), hm]
    refine ⟨w_in hi (by omega), fun c => absurd c (w_nleO (by omega) (by omega) (by omega)), fun _ => ⟨w_in (by omega) (by omega), fun o' ho' x hx => ?_⟩⟩
    rw [hx, w_suc]
    refine ih (k + 1) (by omega) o' (fun j hj => ?_)
    rw [w_cl (by omega)] at ho'
    by_cases c : j = k
    · rw [ho', c, p_upd_eq]
    · rw [ho', p_upd_ne c]
      exact ho j (by omega)
