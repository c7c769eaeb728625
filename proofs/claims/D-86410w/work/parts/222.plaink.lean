/-! the plain law: worst, story. By hand (gen/222.plaink.src.txt) -/
theorem z_cmp_le {a b : Int} : z_cmp a b ≤ 0 ↔ a ≤ b := by
  unfold z_cmp
  by_cases c : a < b
  · rw [if_pos c]; exact ⟨fun _ => by omega, fun _ => by decide⟩
  · rw [if_neg c]
    by_cases d : a = b
    · rw [if_pos d]; exact ⟨fun _ => by omega, fun _ => by decide⟩
    · rw [if_neg d]; exact ⟨fun q => absurd q (by decide), fun _ => by omega⟩
theorem z_cmp_lt0 {a b : Int} : z_cmp a b < 0 ↔ a < b := by
  unfold z_cmp
  by_cases c : a < b
  · rw [if_pos c]; exact ⟨fun _ => c, fun _ => by decide⟩
  · rw [if_neg c]
    by_cases d : a = b
    · rw [if_pos d]; exact ⟨fun q => absurd q (by decide), fun _ => by omega⟩
    · rw [if_neg d]; exact ⟨fun q => absurd q (by decide), fun _ => by omega⟩
theorem z_sg_ge {a : Int} : 0 ≤ z_sg a ↔ 0 ≤ a := by
  unfold z_sg
  by_cases c : a < 0
  · rw [if_pos c]; exact ⟨fun q => absurd q (by decide), fun _ => by omega⟩
  · rw [if_neg c]
    by_cases d : a = 0
    · rw [if_pos d]; exact ⟨fun _ => by omega, fun _ => by decide⟩
    · rw [if_neg d]; exact ⟨fun _ => by omega, fun _ => by decide⟩
theorem z_sg_0 {a : Int} : z_sg a = 0 ↔ a = 0 := by
  unfold z_sg
  by_cases c : a < 0
  · rw [if_pos c]; exact ⟨fun q => absurd q (by decide), fun _ => by omega⟩
  · rw [if_neg c]
    by_cases d : a = 0
    · rw [if_pos d]; exact ⟨fun _ => d, fun _ => rfl⟩
    · rw [if_neg d]; exact ⟨fun q => absurd q (by decide), fun q => absurd q d⟩
/-- the worst of the first k, by losses f -/
def p_wst (f : Nat → Int) : Nat → Int32 × Int
  | 0 => (-1, 0)
  | k + 1 => if (p_wst f k).2 < ((f k).natAbs : Int) then (Int32.ofNat k, ((f k).natAbs : Int)) else p_wst f k
theorem p_wst_bd {f : Nat → Int} {B n : Nat} (h : ∀ k, k < n → (f k).natAbs ≤ B) : 0 ≤ (p_wst f n).2 ∧ (p_wst f n).2 ≤ B := by
  induction n with
  | zero => exact ⟨Int.le_refl _, Int.natCast_nonneg _⟩
  | succ n ih =>
    have i := ih (fun k hk => h k (by omega))
    have := h n (by omega)
    show 0 ≤ (if _ then _ else _ : Int32 × Int).2 ∧ (if _ then _ else _ : Int32 × Int).2 ≤ _
    split
    · exact ⟨Int.natCast_nonneg _, by show ((f n).natAbs : Int) ≤ _; omega⟩
    · exact i
theorem p_worst_L {s : LSt} {r : Nat} {t : Tp} (h : RTp s r t) {n : Nat} (hn : (tC t).toInt = (n : Int)) (hn2 : n ≤ tNn t) (hn3 : n ≤ 60) {X : Int32 → Int32 → (Nat → Int32) → (Nat → Int32) → Prop} (hX : ∀ i w1 w2, X (p_wst (p_loss s r) n).1 i w1 w2) : ∀ m k, k + m = n → ∀ w1 w2, EX 40 0 w2 (p_wst (p_loss s r) k).2 → wX1_worst_L37 (Int32.ofNat n) (tNn t) (tLl t) (tRr t) (tSs t) X (m + 1) (p_wst (p_loss s r) k).1 (Int32.ofNat k) w1 w2 := by
  intro m
  induction m with
  | zero =>
    intro k hk w1 w2 hw
    have e : k = n := by omega
    subst e
    exact ⟨fun _ => hX _ _ _, fun c => absurd (Int32.le_refl _) c⟩
  | succ m ih =>
    intro k hk w1 w2 hw
    have hk2 : k < n := by omega
    have lb := p_lossb h hn hk2
    obtain ⟨wb1, wb2⟩ := p_wst_bd (f := p_loss s r) (B := 3 * 2 ^ 1184) (n := k) (fun j hj => p_lossb h hn (by omega))
    have pm := z_pM
    have hP := z_P39
    refine ⟨fun c => absurd c (w_nleO (by omega) (by omega) (by omega)), fun _ => q_lose h hn hn2 hn3 hk2 (fun w8 f8 => ?_)⟩
    have J : ∀ w, EX 40 0 w ((p_loss s r k).natAbs : Int) → wX1_worst_J74 (p_wst (p_loss s r) k).1 (Int32.ofNat k) w2 (wX1_worst_L37 (Int32.ofNat n) (tNn t) (tLl t) (tRr t) (tSs t) X (m + 1)) w := by
      intro w hw1
      refine q2_compare hw1 hw (by omega) (by omega) wb1 (by omega) ⟨fun c x hx => ?_, fun c => q2_set hw1 (fun w' hw' x hx => ?_)⟩
      · have c := z_cmp_le.mp c
        have e : p_wst (p_loss s r) (k + 1) = p_wst (p_loss s r) k := by
          show (if _ then _ else _) = _
          rw [if_neg (by omega)]
        rw [hx, w_suc, ← e]
        exact ih (k + 1) (by omega) w w2 (by rw [e]; exact hw)
      · have c : ¬ ((p_loss s r k).natAbs : Int) ≤ (p_wst (p_loss s r) k).2 := fun q => c (z_cmp_le.mpr q)
        have e : p_wst (p_loss s r) (k + 1) = (Int32.ofNat k, ((p_loss s r k).natAbs : Int)) := by
          show (if _ then _ else _) = _
          rw [if_pos (by omega)]
        rw [hx, w_suc]
        have := ih (k + 1) (by omega) w w' (by rw [e]; exact hw')
        rw [e] at this
        exact this
    refine q2_sign f8 (by omega) (by omega) ⟨fun c => J w8 ?_, fun c => q2_negate f8 (fun w9 f9 => J w9 ?_)⟩
    · have c := z_sg_ge.mp c
      exact EX_abs f8 c
    · have c : ¬ 0 ≤ p_loss s r k := fun q => c (z_sg_ge.mpr q)
      rw [show ((p_loss s r k).natAbs : Int) = -p_loss s r k by omega]
      exact f9
theorem p_worst3_L {s : LSt} {r : Nat} (hr : r < 60) {t : Tp} (h : RTp s r t) {n : Nat} (hn : (tC t).toInt = (n : Int)) (hn3 : n ≤ 60) (h4 : s.runSteps r = Int32.ofNat n) {X : Int32 → Int32 → (Nat → Int32) → Prop} (hX : ∀ i b, X (p_wst (p_loss s r) n).1 i b) : ∀ m k, k + m = n → ∀ b, EX 44 44 b (p_wst (p_loss s r) k).2 → wX3_worst_L25 s.runSteps s.lefts s.rights s.results (Int32.ofNat r) X (m + 1) (p_wst (p_loss s r) k).1 (Int32.ofNat k) b := by
  intro m
  induction m with
  | zero =>
    intro k hk b hb
    have e : k = n := by omega
    subst e
    unfold wX3_worst_L25
    rw [w_cl (by omega), h4]
    exact ⟨w_in hr (by omega), fun _ => hX _ _, fun c => absurd (Int32.le_refl _) c⟩
  | succ m ih =>
    intro k hk b hb
    have hk2 : k < n := by omega
    have lb := p_lossb h hn hk2
    obtain ⟨wb1, wb2⟩ := p_wst_bd (f := p_loss s r) (B := 3 * 2 ^ 1184) (n := k) (fun j hj => p_lossb h hn (by omega))
    have pm := z_pM
    have hP := z_P43
    have hP4 := z_P44
    have hp4 : (2 : Nat) ^ 1240 < 2 ^ 1408 := Nat.pow_lt_pow_right (by decide) (by decide)
    unfold wX3_worst_L25
    rw [w_cl (by omega), h4]
    refine ⟨w_in hr (by omega), fun c => absurd c (w_nleO (by omega) (by omega) (by omega)), fun _ => q3_loss hr h hn hn3 hk2 (fun b6 f6 o6 => ?_)⟩
    have hb6 : EX 44 (44 * 1) b6 (p_wst (p_loss s r) k).2 := by
      refine Eq.trans (z_W_congr fun j hj => ?_) hb
      show z_w (b6 (44 * 1 + j)) = z_w (b (44 + j))
      rw [o6 _ (by omega) (by omega)]
    have J : ∀ b', EX 44 (44 * 0) b' ((p_loss s r k).natAbs : Int) → EX 44 (44 * 1) b' (p_wst (p_loss s r) k).2 → wX3_worst_J55 (p_wst (p_loss s r) k).1 (Int32.ofNat k) (wX3_worst_L25 s.runSteps s.lefts s.rights s.results (Int32.ofNat r) X (m + 1)) b' := by
      intro b' hw1 hw
      refine q3_compare (s := 0) (t := 1) (by decide) (by decide) hw1 hw (by omega) (by omega) wb1 (by omega) ⟨fun c x hx => ?_, fun c => q3_copy (s := 1) (t := 0) (by decide) (by decide) (by decide) hw1 (fun b'' e'' o'' x hx => ?_)⟩
      · have c := z_cmp_le.mp c
        have e : p_wst (p_loss s r) (k + 1) = p_wst (p_loss s r) k := by
          show (if _ then _ else _) = _
          rw [if_neg (by omega)]
        rw [hx, w_suc, ← e]
        exact ih (k + 1) (by omega) b' (by rw [e]; exact hw)
      · have c : ¬ ((p_loss s r k).natAbs : Int) ≤ (p_wst (p_loss s r) k).2 := fun q => c (z_cmp_le.mpr q)
        have e : p_wst (p_loss s r) (k + 1) = (Int32.ofNat k, ((p_loss s r k).natAbs : Int)) := by
          show (if _ then _ else _) = _
          rw [if_pos (by omega)]
        rw [hx, w_suc]
        have := ih (k + 1) (by omega) b'' (by rw [e]; exact e'')
        rw [e] at this
        exact this
    refine q3_sign (s := 0) (by decide) f6 (by omega) (by omega) ⟨fun c => J b6 ?_ hb6, fun c => q3_negate (s := 0) (by decide) f6 (fun b9 f9 o9 => J b9 ?_ (EX_out hb6 o9 (by omega)))⟩
    · have c := z_sg_ge.mp c
      exact EX_abs f6 c
    · have c : ¬ 0 ≤ p_loss s r k := fun q => c (z_sg_ge.mpr q)
      rw [show ((p_loss s r k).natAbs : Int) = -p_loss s r k by omega]
      exact f9
theorem p_c18 {ta : Nat → ClassId} {L : Nat} {xf : Nat → Int32} (hL : L ≤ 320) (v4 : Int32) (s : LSt) (hs : RR s) (h1 : 0 ≤ v4.toInt) (h2 : v4.toInt + 5 ≤ (L : Int)) : wL_18 (LSt.thrown s) (LSt.many s) (LSt.isWide s) (LSt.amountOf s) (LSt.accountOf s) (LSt.dayOf s) (LSt.given s) (LSt.givenOf s) (LSt.runs s) (LSt.runWide s) (LSt.runWay s) (LSt.runTotal s) (LSt.runSteps s) (LSt.lefts s) (LSt.rights s) (LSt.results s) (LSt.wide s) (LSt.dn s) (LSt.stepsAt s) (LSt.keeps s) (LSt.order s) (LSt.att s) (LSt.spareAmount s) (LSt.spareAccount s) (LSt.spareDay s) (LSt.cured s) (LSt.cureOf s) (LSt.shareOf s) (LSt.big s) (LSt.unitsOf s) (LSt.spare s) (LSt.halfFrom s) (LSt.halfMany s) (LSt.halfDone s) (LSt.halfTotal s) (LSt.isFar s) (LSt.of s) (LSt.cur s) (LSt.cs s) ta v4 xf L (LSt.cs s) (lst RR) := by
  have v1 := p_v (j := 1) hL h1 h2 (by decide)
  unfold wL_18
  refine ⟨v1, ?_⟩
  generalize xf (v4 + 1).toNatClampNeg = p0
  unfold bX1_worst
  refine ⟨fun hin => ?_, fun hin => ?_⟩
  · obtain ⟨t, x, r1, r2, r3, r4, r5, r6, r7, r8⟩ := p_runs hs hin
    obtain ⟨n, n1, n2, n3, n4, n5⟩ := p_cnt r3
    refine ⟨fun x' hx' => ⟨fun t' ht' => ?_, fun q => by rw [r1] at q; cases q⟩, fun q => by rw [r2] at q; cases q⟩
    rw [r2] at hx'
    cases hx'
    rw [r1] at ht'
    cases ht'
    refine r7 _ ⟨fun _ => r6 _ ⟨rfl, q2_clear (fun w' hw' => ⟨n + 1, ?_⟩)⟩, fun q => absurd q (by decide)⟩
    rw [n3]
    refine p_worst_L r3 n5 n2 n1 (fun i w1 w2 => ⟨v1, ?_⟩) n 0 (by omega) _ w' hw'
    refine r8 _ ⟨fun _ => q3_clear (s := 1) (by decide) (fun b' hb' _ => ⟨n + 1, ?_⟩), fun q => absurd rfl q⟩
    rw [r4]
    exact p_worst3_L r5 r3 n5 n1 n4 (fun i b => ⟨fun _ => Or.inl hs, fun q => q (by rw [w_cl (by omega)])⟩) n 0 (by omega) b' hb'
  · obtain ⟨q1, q2⟩ := p_norun hs hin
    unfold wX1_worst_N
    refine q1 _ ⟨fun q => absurd rfl q, fun _ => ⟨v1, ?_⟩⟩
    unfold wX3_worst
    exact q2 _ ⟨fun q => absurd q (by decide), fun _ => ⟨fun _ => Or.inl hs, fun q => q rfl⟩⟩
/-! story -/
theorem z_dmul {a b : UInt64} (ha : zf a) (hb : zf b) (h : (zV a).natAbs * (zV b).natAbs ≤ 2 ^ 3171) : zf (FP.dmul a b) ∧ (zV (FP.dmul a b)).natAbs * 2 ^ 1074 = z_rn 53 1074 ((zV a).natAbs * (zV b).natAbs) ∧ zS (FP.dmul a b) = (zS a != zS b) := by
  obtain ⟨c, q, a1, a2, a3, a4, a5, a6⟩ := z_get ha
  obtain ⟨d, r, b1, b2, b3, b4, b5, b6⟩ := z_get hb
  have ea : (zV a).natAbs = c * 2 ^ (q + 1074).toNat := by rw [a3, z_sg_nat]
  have eb : (zV b).natAbs = d * 2 ^ (r + 1074).toNat := by rw [b3, z_sg_nat]
  have hv : c * d * 2 ^ (q + r + 2148).toNat = (zV a).natAbs * (zV b).natAbs := by
    rw [ea, eb, show (q + r + 2148).toNat = (q + 1074).toNat + (r + 1074).toNat by omega, Nat.pow_add, Nat.mul_mul_mul_comm]
  obtain ⟨c', q', h1, h2, h3⟩ := z_round (s := (zS a != zS b)) (c := c * d) (q := q + r) (E := 2148) (Or.inr rfl) (by omega) (by omega) (by
    rw [hv, z_k64.2.2.1, z_k64.2.2.2.2, ← Nat.pow_add]
    exact h)
  obtain ⟨g1, g2, g3⟩ := z_put h2
  have e : FP.dmul a b = UInt64.ofNat (FP.Core.encode FP.Core.b64 (.fin (zS a != zS b) c' q')) := by
    show UInt64.ofNat (FP.Core.encode FP.Core.b64 (FP.Core.round FP.Core.b64 (FP.Core.exactProduct (FP.Core.decode FP.Core.b64 a.toNat) (FP.Core.decode FP.Core.b64 b.toNat)))) = _
    rw [a1, b1]
    show UInt64.ofNat (FP.Core.encode FP.Core.b64 (FP.Core.round FP.Core.b64 (.fin (zS a != zS b) (c * d) (q + r)))) = _
    rw [h1]
  have hq' : -1074 ≤ q' := by
    have := h2.2.1
    rw [z_k64.2.2.2.1] at this
    exact this
  rw [hv, z_k64.2.2.1, z_k64.2.2.2.1, show (q' + 2148).toNat = (q' + 1074).toNat + 1074 by omega, Nat.pow_add, ← Nat.mul_assoc] at h3
  rw [e]
  refine ⟨g1, ?_, g2⟩
  rw [g3, z_sg_nat, h3]
  rfl
theorem z_max {a b : UInt64} (ha : zf a) (hb : zf b) : mMax a b = if zV a < zV b then b else if zV b < zV a then a else if zS a then b else a := by
  have e : (a >>> 63 == 1) = zS a := by
    have h : (a >>> 63).toNat = a.toNat / 9223372036854775808 := by
      rw [UInt64.toNat_shiftRight]
      exact Nat.shiftRight_eq_div_pow _ _
    have hl := a.toNat_lt
    rw [z_zS]
    by_cases c : 9223372036854775808 ≤ a.toNat
    · rw [decide_eq_true c, beq_iff_eq, ← UInt64.toNat_inj, h]
      show _ = 1
      omega
    · rw [decide_eq_false c, beq_eq_false_iff_ne, Ne, ← UInt64.toNat_inj, h]
      show ¬ _ = 1
      omega
  unfold mMax Jvm.Native.java_lang_Math.nans.pick64
  rw [z_dcmp ha hb, e]
  by_cases c : zV a < zV b
  · rw [if_pos c, z_cmp_lt.mpr c]
    rfl
  · rw [if_neg c]
    by_cases d : zV b < zV a
    · have : some (compare (zV a) (zV b)) = some Ordering.gt := by
        have := (z_dgt ha hb).mpr d
        unfold dgt at this
        rw [z_dcmp ha hb] at this
        exact this
      rw [if_pos d, this]
      rfl
    · rw [if_neg d, z_cmp_eq.mpr (show zV a = zV b by omega)]
      show (if (zS a == true) = true then b else a) = _
      cases zS a <;> rfl
theorem p_sh1 {p q u v J K0 : Prop} (h0 : (p ∧ ¬ v) ∨ (q ∧ ¬ u) → K0) (hJ : ¬ ((p ∧ ¬ v) ∨ (q ∧ ¬ u)) → J) : (¬ p → ((¬ q → J) ∧ (q → ((u → J) ∧ (¬ u → K0))))) ∧ (p → ((¬ v → K0) ∧ (v → ((¬ q → J) ∧ (q → ((u → J) ∧ (¬ u → K0))))))) := by
  by_cases p <;> by_cases q <;> by_cases u <;> by_cases v <;> simp_all
theorem p_sh2 {e la ga lb gb S K1 : Prop} (h1 : e ∧ ((la ∧ gb) ∨ (ga ∧ lb)) → K1) (hS : ¬ (e ∧ ((la ∧ gb) ∨ (ga ∧ lb))) → S) : (¬ e → S) ∧ (e → ((¬ la → ((¬ ga → S) ∧ (ga → ((¬ lb → S) ∧ (lb → K1))))) ∧ (la → ((gb → K1) ∧ (¬ gb → ((¬ ga → S) ∧ (ga → ((¬ lb → S) ∧ (lb → K1))))))))) := by
  by_cases e <;> by_cases la <;> by_cases ga <;> by_cases lb <;> by_cases gb <;> simp_all
theorem z_two : zf 4611686018427387904 ∧ zV 4611686018427387904 = 2 ^ 1075 := by
  refine ⟨by unfold zf; decide +kernel, by decide +kernel⟩
theorem p_dbl {c : UInt64} (h : pB c) : vf_n64 (FP.dmul 4611686018427387904 (mAbs c)) := by
  obtain ⟨m1, m2, m3⟩ := z_mAbs h.1
  refine z_n64 (z_dmul z_two.1 m1 ?_).1
  rw [z_two.2, m2]
  show ((2 : Int) ^ 1075).natAbs * (zV c).natAbs ≤ _
  rw [← w_p2]
  show (2 ^ 1075 : Nat) * (zV c).natAbs ≤ _
  refine Nat.le_trans (Nat.mul_le_mul_left _ h.2) ?_
  rw [← Nat.pow_add]
  exact Nat.pow_le_pow_right (by decide) (by decide)
theorem p_c17 {ta : Nat → ClassId} {L : Nat} {xf : Nat → Int32} (hL : L ≤ 320) (v4 : Int32) (s : LSt) (hs : RR s) (h1 : 0 ≤ v4.toInt) (h2 : v4.toInt + 5 ≤ (L : Int)) : wL_17 (LSt.thrown s) (LSt.many s) (LSt.isWide s) (LSt.amountOf s) (LSt.accountOf s) (LSt.dayOf s) (LSt.given s) (LSt.givenOf s) (LSt.runs s) (LSt.runWide s) (LSt.runWay s) (LSt.runTotal s) (LSt.runSteps s) (LSt.lefts s) (LSt.rights s) (LSt.results s) (LSt.wide s) (LSt.dn s) (LSt.stepsAt s) (LSt.keeps s) (LSt.order s) (LSt.att s) (LSt.spareAmount s) (LSt.spareAccount s) (LSt.spareDay s) (LSt.cured s) (LSt.cureOf s) (LSt.shareOf s) (LSt.big s) (LSt.unitsOf s) (LSt.spare s) (LSt.halfFrom s) (LSt.halfMany s) (LSt.halfDone s) (LSt.halfTotal s) (LSt.isFar s) (LSt.of s) (LSt.cur s) (LSt.cs s) ta v4 xf L (LSt.cs s) (lst RR) := by
  have v1 := p_v (j := 1) hL h1 h2 (by decide)
  have v2 := p_v (j := 2) hL h1 h2 (by decide)
  unfold wL_17
  refine ⟨v1, v2, ?_⟩
  generalize xf (v4 + 1).toNatClampNeg = p0
  generalize xf (v4 + 2).toNatClampNeg = p1
  unfold bX1_story
  refine ⟨fun hin => ?_, fun hin => ?_⟩
  · obtain ⟨t, x, r1, r2, r3, r4, r5, r6, r7, r8⟩ := p_runs hs hin
    obtain ⟨n, n1, n2, n3, n4, n5⟩ := p_cnt r3
    refine ⟨fun x' hx' => ⟨fun t' ht' => ?_, fun q => by rw [r1] at q; cases q⟩, fun q => by rw [r2] at q; cases q⟩
    rw [r2] at hx'
    cases hx'
    rw [r1] at ht'
    cases ht'
    refine p_isStep r6 r7 n1 n3 (fun hv => ⟨fun _ => r6 _ ⟨rfl, ?_⟩, fun q => absurd q (by decide)⟩) (fun hv => ⟨fun q => absurd rfl q, fun _ => ⟨v1, v2, ?_⟩⟩)
    · obtain ⟨k1, k2⟩ := p_ofn hv (by omega)
      obtain ⟨⟨e1, e2, e3⟩, b1, b2, b3⟩ := p_stp r3 n5 k1
      have lb := p_lossb r3 n5 k1
      have pm := z_pM
      have hP := z_P39
      have hP3 := z_P43
      have hvt : vp_in p1 (tNn t) := by rw [k2]; exact w_inT (by omega) (by omega)
      obtain ⟨i1, i2⟩ := p_3600 r5 (show p1.toNatClampNeg < 60 by omega)
      rw [← r4, ← k2] at i1 i2
      obtain ⟨ma1, ma2, ma3⟩ := z_mAbs b1.1
      obtain ⟨mb1, mb2, mb3⟩ := z_mAbs b2.1
      refine ⟨hvt, fun a ha => ⟨hvt, fun b hb => ⟨hvt, fun c hc => ?_⟩⟩⟩
      have hm : ∀ (K : Int32 → Int32 → (Nat → Int32) → Prop), ((deq c a ∧ ¬ deq b FP.dconst0) ∨ (deq c b ∧ ¬ deq a FP.dconst0) → K 0 0 s.big) → (¬ ((deq c a ∧ ¬ deq b FP.dconst0) ∨ (deq c b ∧ ¬ deq a FP.dconst0)) → (dle (FP.dmul 4611686018427387904 (mAbs c)) (mMax (mAbs a) (mAbs b)) ∧ ((dlt a FP.dconst0 ∧ dgt b FP.dconst0) ∨ (dgt a FP.dconst0 ∧ dlt b FP.dconst0)) → K 1 0 s.big) ∧ (¬ (dle (FP.dmul 4611686018427387904 (mAbs c)) (mMax (mAbs a) (mAbs b)) ∧ ((dlt a FP.dconst0 ∧ dgt b FP.dconst0) ∨ (dgt a FP.dconst0 ∧ dlt b FP.dconst0))) → ∀ bg, ((¬ z_sg (p_loss s p0.toNatClampNeg p1.toNatClampNeg) = 0 → ((0 ≤ z_sg (p_loss s p0.toNatClampNeg p1.toNatClampNeg) → K 4 0 bg) ∧ (¬ 0 ≤ z_sg (p_loss s p0.toNatClampNeg p1.toNatClampNeg) → K 3 0 bg))) ∧ (z_sg (p_loss s p0.toNatClampNeg p1.toNatClampNeg) = 0 → K 2 0 bg)))) → wX3_story p0 p1 s.thrown s.runs s.runSteps s.lefts s.rights s.results s.big K := by
        intro K hK0 hK1
        refine p_noStep r4 r5 r8 n1 n4 (fun _ => ⟨fun _ => ⟨i1, fun a' ha' => ⟨i1, fun b' hb' => ⟨i1, fun c' hc' => ?_⟩⟩⟩, fun q => absurd rfl q⟩) (fun q => absurd hv q)
        rw [i2, ← e1, ← ha] at ha'
        rw [i2, ← e2, ← hb] at hb'
        rw [i2, ← e3, ← hc] at hc'
        subst ha' hb' hc'
        rw [← ha] at b1 ma1 ma2 ma3
        rw [← hb] at b2 mb1 mb2 mb3
        rw [← hc] at b3
        have S : ∀ bg : Nat → Int32, (∀ bg, ((¬ z_sg (p_loss s p0.toNatClampNeg p1.toNatClampNeg) = 0 → ((0 ≤ z_sg (p_loss s p0.toNatClampNeg p1.toNatClampNeg) → K 4 0 bg) ∧ (¬ 0 ≤ z_sg (p_loss s p0.toNatClampNeg p1.toNatClampNeg) → K 3 0 bg))) ∧ (z_sg (p_loss s p0.toNatClampNeg p1.toNatClampNeg) = 0 → K 2 0 bg))) → wX3_story_J155 s.lefts s.rights s.results s.big p0 p1 0 K := by
          intro _ hh
          have key := q3_loss (s := s) (big := s.big) r5 r3 n5 n1 k1 (K := fun big_14 => wX3_signOf 0 big_14 (fun r_15 => ((¬ r_15 = 0 → ((0 ≤ r_15 → K 4 0 big_14) ∧ (¬ 0 ≤ r_15 → K 3 0 big_14))) ∧ (r_15 = 0 → K 2 0 big_14)))) (fun b4 g4 _ => q3_sign (s := 0) (by decide) g4 (by omega) (by omega) (hh b4))
          rw [← r4, ← k2] at key
          exact key
        have J : ¬ ((deq c' a' ∧ ¬ deq b' FP.dconst0) ∨ (deq c' b' ∧ ¬ deq a' FP.dconst0)) → ∀ mx, mx = mMax (mAbs a') (mAbs b') → wX3_story_J110 s.lefts s.rights s.results s.big p0 p1 a' b' c' 0 K mx := by
          intro hn mx hmx
          subst hmx
          obtain ⟨g1, g2⟩ := hK1 hn
          exact q3_sizeOf b3.1 ⟨p_dbl b3, p_sh2 g1 (fun q => S s.big (g2 q))⟩
        have J2 : ¬ ((deq c' a' ∧ ¬ deq b' FP.dconst0) ∨ (deq c' b' ∧ ¬ deq a' FP.dconst0)) → (wX3_sizeOf a' (fun r_9 => (wX3_sizeOf b' (fun r_10 => ((¬ dgt r_9 r_10 → (wX3_sizeOf b' (fun r_11 => (wX3_story_J110 s.lefts s.rights s.results s.big p0 p1 a' b' c' 0 K r_11)))) ∧ (dgt r_9 r_10 → (wX3_sizeOf a' (fun r_16 => (wX3_story_J110 s.lefts s.rights s.results s.big p0 p1 a' b' c' 0 K r_16))))))))) := by
          intro hn
          refine q3_sizeOf b1.1 (q3_sizeOf b2.1 ⟨fun q => q3_sizeOf b2.1 (J hn _ ?_), fun q => q3_sizeOf b1.1 (J hn _ ?_)⟩)
          · rw [z_dgt ma1 mb1] at q
            rw [z_max ma1 mb1]
            by_cases e : zV (mAbs a') < zV (mAbs b')
            · rw [if_pos e]
            · rw [if_neg e, if_neg q, ma3, if_neg (show ¬ (false = true) by decide)]
              exact z_ext mb1 ma1 (mb3.trans ma3.symm) (by omega)
          · rw [z_dgt ma1 mb1] at q
            rw [z_max ma1 mb1, if_neg (by omega), if_pos q]
        exact p_sh1 hK0 J2
      subst ha hb hc
      refine p_sh1 (fun q => ⟨v1, v2, ?_⟩) (fun q => ⟨z_n64 b3.1, p_dbl b3, z_n64 b1.1, z_n64 b2.1, z_nan ma1, z_nan mb1, p_sh2 (fun q2 => ⟨v1, v2, ?_⟩) (fun q2 => ?_)⟩)
      · exact hm _ (fun _ => ⟨fun _ => Or.inl hs, fun q => q rfl⟩) (fun q2 => absurd q q2)
      · exact hm _ (fun q3 => absurd q3 q) (fun _ => ⟨fun _ => ⟨fun _ => Or.inl hs, fun q => q rfl⟩, fun q3 => absurd q2 q3⟩)
      · unfold wX1_story_J138
        rw [k2]
        refine q_lose r3 n5 n2 n1 k1 (fun w9 f9 => q2_sign f9 (by omega) (by omega) ⟨fun c0 => ⟨fun c1 => ⟨v1, v2, ?_⟩, fun c1 => ⟨v1, v2, ?_⟩⟩, fun c0 => ⟨v1, v2, ?_⟩⟩)
        · rw [← k2]
          exact hm _ (fun q3 => absurd q3 q) (fun _ => ⟨fun q3 => absurd q3 q2, fun _ bg => ⟨fun _ => ⟨fun _ => ⟨fun _ => Or.inl hs, fun q => q rfl⟩, fun q4 => absurd c1 q4⟩, fun q4 => absurd q4 c0⟩⟩)
        · rw [← k2]
          exact hm _ (fun q3 => absurd q3 q) (fun _ => ⟨fun q3 => absurd q3 q2, fun _ bg => ⟨fun _ => ⟨fun q4 => absurd q4 c1, fun _ => ⟨fun _ => Or.inl hs, fun q => q rfl⟩⟩, fun q4 => absurd q4 c0⟩⟩)
        · rw [← k2]
          exact hm _ (fun q3 => absurd q3 q) (fun _ => ⟨fun q3 => absurd q3 q2, fun _ bg => ⟨fun q4 => absurd c0 q4, fun _ => ⟨fun _ => Or.inl hs, fun q => q rfl⟩⟩⟩)
    · exact p_noStep r4 r5 r8 n1 n4 (fun q => absurd q hv) (fun _ => ⟨fun q => absurd q (by decide), fun _ => ⟨fun _ => Or.inl hs, fun q => q rfl⟩⟩)
  · obtain ⟨q1, q2⟩ := p_norun hs hin
    unfold wX1_story_N wX1_isStep_N
    refine q1 _ ⟨fun _ => ⟨fun q => absurd rfl q, fun _ => ⟨v1, v2, ?_⟩⟩, fun q => absurd rfl q⟩
    unfold wX3_story wX3_noStep
    exact q2 _ ⟨fun _ => ⟨fun q => absurd q (by decide), fun _ => ⟨fun _ => Or.inl hs, fun q => q rfl⟩⟩, fun q => absurd q (by decide)⟩
