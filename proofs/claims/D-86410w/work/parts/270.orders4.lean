/-! all orders: the component's recursion, the model's walk. By hand (gen/270.orders4.src.txt) -/
def o_up (w : UInt64) (st : UInt64 × UInt64 × Int32 × Int32) (t : UInt64) : UInt64 × UInt64 × Int32 × Int32 := (if st.2.2.1 = 0 then t else p_pk false st.1 t, if st.2.2.1 = 0 then t else p_pk true st.2.1 t, 1, if zV t = zV w then 1 else st.2.2.2)
def o_ok (st : UInt64 × UInt64 × Int32 × Int32) : Prop := (zf st.1 ∧ zf st.2.1) ∧ isB st.2.2.2
def o_re (s : LSt) (i : Nat) (k : Bool) (w : UInt64) (st : UInt64 × UInt64 × Int32 × Int32) (pre : List Nat) (L : List (List Nat)) : UInt64 × UInt64 × Int32 × Int32 := (L.map (fun t => p_ot s i k (pre ++ t))).foldl (o_up w) st
def o_fr (n : Nat) (o : Nat → Int32) : List Nat := (List.range n).filter (fun j => decide (o j = 0))
theorem p_pk_zf {g : Bool} {v w : UInt64} (hv : zf v) (hw : zf w) : zf (p_pk g v w) := by
  rcases p_pk_of g v w with e | e
  · rw [e]; exact hv
  · rw [e]; exact hw
theorem o_up_ok {w t : UInt64} {st : UInt64 × UInt64 × Int32 × Int32} (h : o_ok st) (ht : zf t) : o_ok (o_up w st t) := by
  obtain ⟨⟨h1, h2⟩, h3⟩ := h
  refine ⟨⟨?_, ?_⟩, ?_⟩
  · show zf (if st.2.2.1 = 0 then t else p_pk false st.1 t)
    split
    · exact ht
    · exact p_pk_zf h1 ht
  · show zf (if st.2.2.1 = 0 then t else p_pk true st.2.1 t)
    split
    · exact ht
    · exact p_pk_zf h2 ht
  · show isB (if zV t = zV w then 1 else st.2.2.2)
    split
    · exact Or.inr rfl
    · exact h3
theorem q25_base {w p1 : UInt64} (hw : zf w) (h1 : zf p1) {st : UInt64 × UInt64 × Int32 × Int32} (h : o_ok st) {rd : Nat} {on : Int32} {ois : Nat → Int32} {kd : Bool} {ln : Nat} {am : Nat → UInt64} {K : UInt64 → UInt64 → Int32 → Int32 → (Nat → Int32) → Prop} (hK : K (o_up w st p1).1 (o_up w st p1).2.1 (o_up w st p1).2.2.1 (o_up w st p1).2.2.2 ois) : wX25_go (rd + 1) on p1 on st.1 st.2.1 st.2.2.1 w st.2.2.2 ois kd ln am K := by
  have hn := z_nan h1
  have J : ∀ (a b : UInt64), a = (o_up w st p1).2.1 → b = (o_up w st p1).1 → wX25_go_J51 w st.2.2.2 ois p1 K a b := by
    intro a b ea eb
    subst ea eb
    have e3 : (o_up w st p1).2.2.2 = if zV p1 = zV w then 1 else st.2.2.2 := rfl
    refine ⟨fun c x hx => ?_, fun c x hx => ?_⟩
    · rw [z_deq h1 hw] at c
      rw [if_neg c] at e3
      have e : x = (o_up w st p1).2.2.2 := by
        rw [e3, hx]
        rcases h.2 with q | q <;> rw [q] <;> rfl
      rw [e]
      exact ⟨(o_up_ok h h1).2, hK⟩
    · rw [z_deq h1 hw] at c
      rw [if_pos c] at e3
      have e : x = (o_up w st p1).2.2.2 := by
        rw [e3, hx]
        rcases h.2 with q | q <;> rw [q] <;> rfl
      rw [e]
      exact ⟨(o_up_ok h h1).2, hK⟩
  have e1 : (o_up w st p1).1 = if st.2.2.1 = 0 then p1 else p_pk false st.1 p1 := rfl
  have e2 : (o_up w st p1).2.1 = if st.2.2.1 = 0 then p1 else p_pk true st.2.1 p1 := rfl
  refine ⟨fun c => absurd rfl c, fun _ => ⟨fun c => ⟨fun _ => J _ _ ?_ ?_, fun d => absurd c d⟩, fun c => ⟨z_nan h.1.1, hn, fun r hr => ⟨fun d => absurd d c, fun _ => ⟨z_nan h.1.2, hn, J _ _ ?_ ?_⟩⟩⟩⟩⟩
  · rw [e2, if_pos c]
  · rw [e1, if_pos c]
  · rw [e2, if_neg c]
    exact z_pick h.1.2 h1 true
  · rw [e1, if_neg c, hr]
    exact z_pick h.1.1 h1 false
theorem p_ot_ok {s : LSt} {i : Nat} {A : Led} (h : RLd s i A) {t : List Nat} (h0 : t ≠ []) (hl : t.length ≤ 60) (hy : ∀ y, y ∈ t → y < lLn A) : zk (lK A) (p_ot s i (lK A) t) ∧ (zV (p_ot s i (lK A) t)).natAbs ≤ 60 * 2 ^ 1174 := by
  cases t with
  | nil => exact absurd rfl h0
  | cons x u =>
    have hl2 : (x :: u).length = u.length + 1 := rfl
    have am := p_amt h (hy x List.mem_cons_self)
    obtain ⟨a1, a2⟩ := p_of_le h u (s.amountOf (60 * i + x)) 1 am.1 (by rw [Nat.one_mul]; exact am.2) (by omega) (fun y q => hy y (List.mem_cons_of_mem _ q))
    exact ⟨a1, Nat.le_trans a2 (Nat.mul_le_mul_right _ (by omega))⟩
theorem p_ot_zf {s : LSt} {i : Nat} {A : Led} (h : RLd s i A) {t : List Nat} (hl : t.length ≤ 60) (hy : ∀ y, y ∈ t → y < lLn A) : zf (p_ot s i (lK A) t) ∧ (zV (p_ot s i (lK A) t)).natAbs ≤ 60 * 2 ^ 1174 := by
  by_cases c : t = []
  · rw [c]
    refine ⟨z_0.1, ?_⟩
    show (zV FP.dconst0).natAbs ≤ _
    rw [z_0.2.1]
    exact Nat.zero_le _
  · obtain ⟨a1, a2⟩ := p_ot_ok h c hl hy
    exact ⟨zk_f a1, a2⟩
theorem p_ot_snoc {s : LSt} {i v : Nat} {k : Bool} {t : List Nat} (h0 : t ≠ []) : p_ot s i k (t ++ [v]) = z_ad k (p_ot s i k t) (s.amountOf (60 * i + v)) := by
  cases t with
  | nil => exact absurd rfl h0
  | cons x u =>
    show p_of s i k (s.amountOf (60 * i + x)) (u ++ [v]) = z_ad k (p_of s i k (s.amountOf (60 * i + x)) u) (s.amountOf (60 * i + v))
    unfold p_of
    rw [List.foldl_append]
    rfl
theorem p_60_1200 : 60 * (2 : Nat) ^ 1174 ≤ 2 ^ 1200 := by
  have pw := z_p1174
  omega
/-- what an order's place v brings -/
def o_br (m : Nat) (rem : List Nat) (x : Nat) : List (List Nat) := (o_all m (rem.filter (fun j => !(Nat.beq j x)))).map (fun t => x :: t)
theorem o_fr_upd {n v : Nat} {o o' f : Nat → Int32} (hf : f = upd o' v 1) (ho : ∀ j, j < n → o' j = o j) : o_fr n f = (o_fr n o).filter (fun j => !(Nat.beq j v)) := by
  unfold o_fr
  rw [List.filter_filter]
  refine List.filter_congr (fun j hj => ?_)
  have hj : j < n := List.mem_range.mp hj
  rw [hf]
  by_cases c : j = v
  · subst c
    rw [p_upd_eq, Nat.beq_refl]
    rfl
  · rw [p_upd_ne c, ho j hj]
    have : Nat.beq j v = false := by
      cases q : Nat.beq j v
      · rfl
      · exact absurd (Nat.eq_of_beq_eq_true q) c
    rw [this]
    cases decide (o j = 0) <;> rfl
theorem q25_go {s : LSt} {i : Nat} {A : Led} (h : RLd s i A) (h7 : lLn A ≤ 7) {w : UInt64} (hw : zf w) : ∀ (m rd : Nat), m < rd → ∀ (pre : List Nat) (ois : Nat → Int32) (st : UInt64 × UInt64 × Int32 × Int32), pre.length + m = lLn A → (∀ y, y ∈ pre → y < lLn A) → o_ok st → ∀ K : UInt64 → UInt64 → Int32 → Int32 → (Nat → Int32) → Prop, (∀ ois', (∀ j, j < 7 → ois' j = ois j) → o_ok (o_re s i (lK A) w st pre (o_all m (o_fr (lLn A) ois))) → K (o_re s i (lK A) w st pre (o_all m (o_fr (lLn A) ois))).1 (o_re s i (lK A) w st pre (o_all m (o_fr (lLn A) ois))).2.1 (o_re s i (lK A) w st pre (o_all m (o_fr (lLn A) ois))).2.2.1 (o_re s i (lK A) w st pre (o_all m (o_fr (lLn A) ois))).2.2.2 ois') → wX25_go rd (Int32.ofNat pre.length) (p_ot s i (lK A) pre) (Int32.ofNat (lLn A)) st.1 st.2.1 st.2.2.1 w st.2.2.2 ois (lK A) (lLn A) (lAm A) K := by
  intro m
  induction m with
  | zero =>
    intro rd hrd pre ois st hlen hpre hst K hK
    obtain ⟨rd, rfl⟩ : ∃ r, rd = r + 1 := ⟨rd - 1, by omega⟩
    have e : Int32.ofNat pre.length = Int32.ofNat (lLn A) := by rw [show pre.length = lLn A by omega]
    have hz := (p_ot_zf h (show pre.length ≤ 60 by omega) hpre).1
    have e2 : o_re s i (lK A) w st pre (o_all 0 (o_fr (lLn A) ois)) = o_up w st (p_ot s i (lK A) pre) := by
      show o_up w st (p_ot s i (lK A) (pre ++ [])) = _
      rw [List.append_nil]
    have := hK ois (fun _ _ => rfl)
    rw [e2] at this
    rw [e]
    exact q25_base hw hz hst (this (o_up_ok hst hz))
  | succ m IH =>
    intro rd hrd pre ois st hlen hpre hst K hK
    obtain ⟨rd, rfl⟩ : ∃ r, rd = r + 1 := ⟨rd - 1, by omega⟩
    refine ⟨fun _ => ⟨lLn A + 1, ?_⟩, fun c => absurd c (w_neO (by omega) (by omega) (by omega))⟩
    have loop : ∀ (c v : Nat), v + c = lLn A → ∀ (ois' : Nat → Int32) (st' : UInt64 × UInt64 × Int32 × Int32), (∀ j, j < 7 → ois' j = ois j) → o_ok st' → ∀ X : Int32 → UInt64 → UInt64 → Int32 → Int32 → (Nat → Int32) → Prop, (∀ v4 ois'', (∀ j, j < 7 → ois'' j = ois j) → o_ok (o_re s i (lK A) w st' pre (((List.range' v c).filter (fun j => decide (ois j = 0))).flatMap (o_br m (o_fr (lLn A) ois)))) → X v4 (o_re s i (lK A) w st' pre (((List.range' v c).filter (fun j => decide (ois j = 0))).flatMap (o_br m (o_fr (lLn A) ois)))).1 (o_re s i (lK A) w st' pre (((List.range' v c).filter (fun j => decide (ois j = 0))).flatMap (o_br m (o_fr (lLn A) ois)))).2.1 (o_re s i (lK A) w st' pre (((List.range' v c).filter (fun j => decide (ois j = 0))).flatMap (o_br m (o_fr (lLn A) ois)))).2.2.1 (o_re s i (lK A) w st' pre (((List.range' v c).filter (fun j => decide (ois j = 0))).flatMap (o_br m (o_fr (lLn A) ois)))).2.2.2 ois'') → wX25_go_L86 (Int32.ofNat (lLn A)) w (lK A) (lLn A) (lAm A) (Int32.ofNat pre.length) (p_ot s i (lK A) pre) (wX25_go rd) X (c + 1) (Int32.ofNat v) st'.1 st'.2.1 st'.2.2.1 st'.2.2.2 ois' := by
      intro c
      induction c with
      | zero =>
        intro v hv ois' st' ho hs X hX
        have e : v = lLn A := by omega
        subst e
        exact ⟨fun _ => hX _ _ ho hs, fun d => absurd (Int32.le_refl _) d⟩
      | succ c ih =>
        intro v hv ois' st' ho hs X hX
        have hv2 : v < lLn A := by omega
        have hvp : vp_in (Int32.ofNat v) 7 := w_in (by omega) (by decide)
        have ecl := w_cl (k := v) (by omega)
        rw [List.range'_succ] at hX
        refine ⟨fun d => absurd d (w_nleO (by omega) (by omega) hv2), fun _ => ⟨hvp, fun d x hx => ?_, fun d => ⟨hvp, fun f8 hf => ?_⟩⟩⟩
        · rw [ecl, ho v (by omega)] at d
          rw [hx, w_suc]
          rw [List.filter_cons_of_neg (p := fun j => decide (ois j = 0)) (fun q => d (of_decide_eq_true q))] at hX
          exact ih (v + 1) (by omega) ois' st' ho hs X hX
        · rw [ecl, ho v (by omega)] at d
          rw [ecl, show vp_nar .boolean 1 = 1 by decide] at hf
          rw [List.filter_cons_of_pos (p := fun j => decide (ois j = 0)) (decide_eq_true d), List.flatMap_cons] at hX
          have efr := o_fr_upd hf (n := lLn A) (fun j hj => ho j (by omega))
          have eb : o_re s i (lK A) w st' (pre ++ [v]) (o_all m (o_fr (lLn A) f8)) = o_re s i (lK A) w st' pre (o_br m (o_fr (lLn A) ois) v) := by
            unfold o_re o_br
            rw [efr, List.map_map]
            refine congrArg (List.foldl (o_up w) st') (List.map_congr_left (fun t _ => ?_))
            show p_ot s i (lK A) ((pre ++ [v]) ++ t) = p_ot s i (lK A) (pre ++ (v :: t))
            rw [List.append_assoc]
            rfl
          have ea : ∀ L, o_re s i (lK A) w st' pre (o_br m (o_fr (lLn A) ois) v ++ L) = o_re s i (lK A) w (o_re s i (lK A) w st' pre (o_br m (o_fr (lLn A) ois) v)) pre L := by
            intro L
            unfold o_re
            rw [List.map_append, List.foldl_append]
          have el : (pre ++ [v]).length = pre.length + 1 := by rw [List.length_append]; rfl
          have next : ∀ KK : UInt64 → UInt64 → Int32 → Int32 → (Nat → Int32) → Prop, (∀ a b p q o'', ((∀ f16 : Nat → Int32, f16 = upd o'' v 0 → wX25_go_L86 (Int32.ofNat (lLn A)) w (lK A) (lLn A) (lAm A) (Int32.ofNat pre.length) (p_ot s i (lK A) pre) (wX25_go rd) X (c + 1) (Int32.ofNat (v + 1)) a b p q f16) → KK a b p q o'')) → wX25_go rd (Int32.ofNat pre.length + 1) (p_ot s i (lK A) (pre ++ [v])) (Int32.ofNat (lLn A)) st'.1 st'.2.1 st'.2.2.1 w st'.2.2.2 f8 (lK A) (lLn A) (lAm A) KK := by
            intro KK hKK
            rw [w_suc, ← el]
            refine IH rd (by omega) (pre ++ [v]) f8 st' (by omega) (fun y hy => ?_) hs KK (fun o'' ho'' hok => hKK _ _ _ _ o'' (fun f16 hf16 => ?_))
            · rcases List.mem_append.mp hy with q | q
              · exact hpre y q
              · rw [List.mem_singleton.mp q]
                exact hv2
            · rw [eb] at hok ⊢
              refine ih (v + 1) (by omega) f16 _ (fun j hj => ?_) hok X (fun v4 o3 h3 k3 => ?_)
              · rw [hf16]
                by_cases q : j = v
                · rw [q, p_upd_eq]
                  exact d.symm
                · rw [p_upd_ne q, ho'' j hj, hf, p_upd_ne q]
                  exact ho j hj
              · have := hX v4 o3 h3
                rw [ea] at this
                exact this k3
          refine ⟨fun c0 => ?_, fun c0 => ?_⟩
          · have hp0 : pre ≠ [] := fun q => c0 (by rw [q]; rfl)
            obtain ⟨t1, t2⟩ := p_ot_ok h hp0 (by omega) hpre
            have am := p_amt h hv2
            have b1 := p_60_1200
            have b2 := z_p1174.1
            refine p_at h hv2 (q_add t1 am.1 (by omega) (by omega) ?_)
            rw [← p_ot_snoc hp0]
            refine next _ (fun a b p q o'' hn => ⟨hvp, fun f16 hf16 x hx => ?_⟩)
            rw [hx, w_suc]
            rw [ecl, show vp_nar .boolean 0 = 0 by decide] at hf16
            exact hn f16 hf16
          · have hp0 : pre = [] := by
              refine List.length_eq_zero_iff.mp ?_
              have := congrArg Int32.toInt c0
              rw [nI_int (by omega)] at this
              have z : (0 : Int32).toInt = 0 := rfl
              omega
            refine p_at h hv2 ?_
            have e1 : p_ot s i (lK A) (pre ++ [v]) = s.amountOf (60 * i + v) := by rw [hp0]; rfl
            rw [e1] at next
            refine next _ (fun a b p q o'' hn => ⟨hvp, fun f16 hf16 x hx => ?_⟩)
            rw [hx, w_suc]
            rw [ecl, show vp_nar .boolean 0 = 0 by decide] at hf16
            exact hn f16 hf16
    refine loop (lLn A) 0 (by omega) ois st (fun _ _ => rfl) hst _ (fun v4 ois'' ho hok => ?_)
    have eall : ((List.range' 0 (lLn A)).filter (fun j => decide (ois j = 0))).flatMap (o_br m (o_fr (lLn A) ois)) = o_all (m + 1) (o_fr (lLn A) ois) := by
      show _ = (o_fr (lLn A) ois).flatMap (o_br m (o_fr (lLn A) ois))
      rw [← List.range_eq_range']
      rfl
    rw [eall] at hok ⊢
    exact hK ois'' ho hok
/-- the orders' members -/
theorem o_all_mem : ∀ (m : Nat) (rem t : List Nat), t ∈ o_all m rem → t.length = m ∧ ∀ y, y ∈ t → y ∈ rem
  | 0, _, t, h => by
    have e : t = [] := List.mem_singleton.mp h
    subst e
    exact ⟨rfl, fun y q => by cases q⟩
  | m + 1, rem, t, h => by
    obtain ⟨x, hx, hm⟩ := List.mem_flatMap.mp h
    obtain ⟨u, hu, rfl⟩ := List.mem_map.mp hm
    obtain ⟨i1, i2⟩ := o_all_mem m _ u hu
    refine ⟨by rw [List.length_cons, i1], fun y hy => ?_⟩
    rcases List.mem_cons.mp hy with q | q
    · rw [q]; exact hx
    · exact (List.mem_filter.mp (i2 y q)).1
theorem o_hd {n : Nat} (h : n ≤ 7) : ∃ L, o_all n (List.range n) = List.range n :: L := by
  have k : ∀ n : Fin 8, (match o_all n.val (List.range n.val) with | [] => false | a :: _ => o_eq a (List.range n.val)) = true := by decide +kernel
  have := k ⟨n, by omega⟩
  revert this
  show (match o_all n (List.range n) with | [] => false | a :: _ => o_eq a (List.range n)) = true → _
  cases o_all n (List.range n) with
  | nil => intro q; cases q
  | cons a L =>
    intro q
    exact ⟨L, by rw [o_eq_eq q]⟩
theorem o_fr0 {n : Nat} : o_fr n (fun _ => 0) = List.range n := by
  unfold o_fr
  exact List.filter_eq_self.mpr (fun _ _ => rfl)
/-- the least (greatest) of totals, the first one at hand -/
def o_bs (s : LSt) (i : Nat) (k g : Bool) (b : UInt64) (L : List (List Nat)) : UInt64 := (L.map (fun t => p_ot s i k t)).foldl (p_pk g) b
theorem o_re_bs {s : LSt} {i : Nat} {k : Bool} {w : UInt64} : ∀ (L : List (List Nat)) (st : UInt64 × UInt64 × Int32 × Int32), st.2.2.1 = 1 → (o_re s i k w st [] L).1 = o_bs s i k false st.1 L ∧ (o_re s i k w st [] L).2.1 = o_bs s i k true st.2.1 L ∧ (o_re s i k w st [] L).2.2.2 = if L.any (fun t => decide (zV (p_ot s i k t) = zV w)) then 1 else st.2.2.2 := by
  intro L
  induction L with
  | nil => intro st _; exact ⟨rfl, rfl, rfl⟩
  | cons t L ih =>
    intro st h1
    obtain ⟨a1, a2, a3⟩ := ih (o_up w st (p_ot s i k t)) rfl
    have n0 : ¬ st.2.2.1 = 0 := by rw [h1]; decide
    have e1 : (o_up w st (p_ot s i k t)).1 = p_pk false st.1 (p_ot s i k t) := if_neg n0
    have e2 : (o_up w st (p_ot s i k t)).2.1 = p_pk true st.2.1 (p_ot s i k t) := if_neg n0
    have e3 : (o_up w st (p_ot s i k t)).2.2.2 = if zV (p_ot s i k t) = zV w then 1 else st.2.2.2 := rfl
    rw [e1] at a1
    rw [e2] at a2
    rw [e3] at a3
    refine ⟨a1, a2, a3.trans ?_⟩
    rw [List.any_cons]
    by_cases c : zV (p_ot s i k t) = zV w
    · rw [if_pos c, decide_eq_true c, Bool.true_or, if_pos rfl]
      split <;> rfl
    · rw [if_neg c, decide_eq_false c, Bool.false_or]
theorem o_bs_ok {s : LSt} {i : Nat} {A : Led} (h : RLd s i A) {g : Bool} : ∀ (L : List (List Nat)) (b : UInt64), zf b ∧ (zV b).natAbs ≤ 60 * 2 ^ 1174 → (∀ t, t ∈ L → t.length ≤ 60 ∧ ∀ y, y ∈ t → y < lLn A) → zf (o_bs s i (lK A) g b L) ∧ (zV (o_bs s i (lK A) g b L)).natAbs ≤ 60 * 2 ^ 1174 := by
  intro L
  induction L with
  | nil => intro b hb _; exact hb
  | cons t L ih =>
    intro b hb hL
    obtain ⟨m1, m2⟩ := hL t List.mem_cons_self
    refine ih (p_pk g b (p_ot s i (lK A) t)) ?_ (fun u hu => hL u (List.mem_cons_of_mem _ hu))
    rcases p_pk_of g b (p_ot s i (lK A) t) with e | e
    · rw [e]; exact hb
    · rw [e]; exact p_ot_zf h m1 m2
theorem q3_lesser {v w : UInt64} {K : UInt64 → Prop} (hv : zf v) (hw : zf w) (hK : K (p_pk false v w)) : wX3_lesser v w K := by
  unfold wX3_lesser
  unfold p_pk at hK
  rw [z_dlt hv hw, z_deq hv hw]
  refine ⟨fun d => ?_, fun d => ⟨fun e => ?_, fun e => q3_isMinus hv (fun q => ⟨fun _ => ?_, fun q => absurd rfl q⟩) (fun q => ⟨fun q => absurd q (by decide), fun _ => ?_⟩)⟩⟩
  · rw [if_pos d, if_neg (by decide)] at hK; exact hK
  · rw [if_neg d, if_pos (by omega), if_neg (by decide)] at hK; exact hK
  · rw [if_neg d, if_neg (by omega), q] at hK; exact hK
  · rw [if_neg d, if_neg (by omega), q] at hK; exact hK
theorem q3_greater {v w : UInt64} {K : UInt64 → Prop} (hv : zf v) (hw : zf w) (hK : K (p_pk true v w)) : wX3_greater v w K := by
  unfold wX3_greater
  unfold p_pk at hK
  rw [z_dgt hv hw, z_deq hv hw]
  refine ⟨fun d => ?_, fun d => ⟨fun e => ?_, fun e => q3_isMinus hv (fun q => ⟨fun q => absurd rfl q, fun _ => ?_⟩) (fun q => ⟨fun _ => ?_, fun q => absurd q (by decide)⟩)⟩⟩
  · rw [if_neg (by omega), if_pos d, if_pos rfl] at hK; exact hK
  · rw [if_pos (by omega), if_pos rfl] at hK; exact hK
  · rw [if_neg (by omega), if_neg (by omega), q] at hK; exact hK
  · rw [if_neg (by omega), if_neg (by omega), q] at hK; exact hK
theorem q3_first {s : LSt} {i : Nat} {A : Led} (hi : i < 12) (h : RLd s i A) {wide : Int32} {o : Nat → Int32} {K : Int32 → (Nat → Int32) → Prop} (hK : ∀ o', o_rel (lLn A) (List.range (lLn A)) o' → K (s.isWide i) o') : wX3_firstOrder (Int32.ofNat i) s.many s.isWide wide o K := by
  have ecl := w_cl (k := i) (by omega)
  refine ⟨w_in hi (by decide), fun x hx => ⟨?_, lLn A + 1, q3_first_L hi h (fun _ o' ho => ?_) (lLn A) 0 (by omega) o (fun j hj => absurd hj (by omega))⟩⟩
  · rw [hx, ecl, h.2.2.1]
    cases lK A
    · exact Or.inl rfl
    · exact Or.inr rfl
  · rw [hx, ecl]
    exact hK o' ho
theorem o_chk_1 {n : Nat} {a : List Nat} (h : o_chk n [a] = true) : o_nx n a = none := Option.isNone_iff_eq_none.mp h
theorem o_chk_2 {n : Nat} {a b : List Nat} {u : List (List Nat)} (h : o_chk n (a :: b :: u) = true) : o_nx n a = some b ∧ o_chk n (b :: u) = true := by
  have h : ((match o_nx n a with | none => false | some c => o_eq c b) && o_chk n (b :: u)) = true := h
  rw [Bool.and_eq_true] at h
  refine ⟨?_, h.2⟩
  cases c : o_nx n a with
  | none =>
    have := h.1
    rw [c] at this
    cases this
  | some d =>
    have := h.1
    rw [c] at this
    rw [o_eq_eq this]
theorem o_rel_mem {n : Nat} {l : List Nat} {o : Nat → Int32} (h : o_rel n l o) : l.length = n ∧ ∀ y, y ∈ l → y < n := by
  refine ⟨h.1, fun y hy => ?_⟩
  obtain ⟨k, hk, rfl⟩ := List.mem_iff_getElem.mp hy
  have := (h.2 k (by rw [← h.1]; exact hk)).2
  unfold o_at at this
  rw [List.getD_eq_getElem?_getD, List.getElem?_eq_getElem hk] at this
  exact this
