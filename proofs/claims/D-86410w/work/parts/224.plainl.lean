/-! the plain law: off, sign. By hand (gen/224.plainl.src.txt) -/
/-- the exact sum of a run's first entries: before its step k -/
def p_T (s : LSt) (r : Nat) : Nat → Int
  | 0 => zV (s.lefts (60 * r))
  | k + 1 => p_T s r k + zV (s.rights (60 * r + k))
theorem p_T_bd {s : LSt} {r : Nat} {t : Tp} (h : RTp s r t) {n : Nat} (hn : (tC t).toInt = (n : Int)) : ∀ k, k ≤ n → 0 < n → (p_T s r k).natAbs ≤ (k + 1) * 2 ^ 1184 := by
  intro k
  induction k with
  | zero =>
    intro _ h0
    obtain ⟨⟨e1, e2, e3⟩, b1, b2, b3⟩ := p_stp h hn h0
    have := b1.2
    rw [e1, Nat.add_zero] at this
    show (zV (s.lefts (60 * r))).natAbs ≤ _
    omega
  | succ k ih =>
    intro hk h0
    have i := ih (by omega) h0
    obtain ⟨⟨e1, e2, e3⟩, b1, b2, b3⟩ := p_stp h hn (show k < n by omega)
    have := b2.2
    rw [e2] at this
    show (p_T s r k + zV (s.rights (60 * r + k))).natAbs ≤ (k + 1 + 1) * 2 ^ 1184
    rw [Nat.add_mul (k + 1) 1]
    omega
theorem p_61 {k : Nat} (h : k ≤ 61) : k * (2 : Nat) ^ 1184 ≤ 61 * 2 ^ 1184 := Nat.mul_le_mul_right _ h
theorem p_tb {p : Nat} : p ≤ 6 → 1 ≤ (10 : Int) ^ p ∧ (10 : Int) ^ p ≤ 1000000 := by
  intro h
  have : ∀ q : Fin 7, 1 ≤ (10 : Int) ^ q.val ∧ (10 : Int) ^ q.val ≤ 1000000 := by decide
  exact this ⟨p, by omega⟩
theorem p_xt {p : Nat} (h : p ≤ 6) : (xTens p).toInt = (10 : Int) ^ p := by
  have : ∀ q : Fin 7, (xTens q.val).toInt = (10 : Int) ^ q.val := by decide
  exact this ⟨p, by omega⟩
theorem w_dbl2 {v : Int64} (h : 1 ≤ v.toInt ∧ v.toInt ≤ 1000000) : (2 * v).toInt = 2 * v.toInt := by
  rw [w_mul64 (by show _ ≤ (2 : Int) * _; omega) (by show (2 : Int) * _ < _; omega)]
  rfl
theorem z_p1211 : 64 * (2 : Nat) ^ 1184 * 2000000 < 2 ^ 1240 := by
  have : 64 * (2 : Nat) ^ 1184 * 2000000 ≤ 2 ^ 1184 * 2 ^ 27 := by
    rw [Nat.mul_comm 64, Nat.mul_assoc]
    exact Nat.mul_le_mul_left _ (by decide)
  rw [← Nat.pow_add] at this
  exact Nat.lt_of_le_of_lt this (Nat.pow_lt_pow_right (by decide) (by decide))
/-- how far a run is off at its step k, in halves of a unit: whether that's one -/
def p_offB (s : LSt) (r k p : Nat) : Int := ((p_T s r (k + 1) - zV (s.results (60 * r + k))).natAbs : Int) * (2 * (10 : Int) ^ p)
theorem p_offbd {s : LSt} {r : Nat} {t : Tp} (h : RTp s r t) {n : Nat} (hn : (tC t).toInt = (n : Int)) (hn3 : n ≤ 60) {k : Nat} (hk : k < n) {p : Nat} (hp : p ≤ 6) : (p_T s r (k + 1) - zV (s.results (60 * r + k))).natAbs ≤ 64 * 2 ^ 1184 ∧ 0 ≤ p_offB s r k p ∧ p_offB s r k p < ((2 ^ 1240 : Nat) : Int) := by
  have a := p_T_bd h hn (k + 1) (by omega) (by omega)
  have a2 := p_61 (show k + 1 + 1 ≤ 61 by omega)
  obtain ⟨⟨e1, e2, e3⟩, b1, b2, b3⟩ := p_stp h hn hk
  have b := b3.2
  rw [e3] at b
  have hd : (p_T s r (k + 1) - zV (s.results (60 * r + k))).natAbs ≤ 64 * 2 ^ 1184 := by omega
  obtain ⟨t1, t2⟩ := p_tb hp
  have hz := z_p1211
  refine ⟨hd, ?_, ?_⟩
  · exact Int.mul_nonneg (Int.natCast_nonneg _) (by omega)
  · unfold p_offB
    have h1 : ((p_T s r (k + 1) - zV (s.results (60 * r + k))).natAbs : Int) * (2 * (10 : Int) ^ p) ≤ ((p_T s r (k + 1) - zV (s.results (60 * r + k))).natAbs : Int) * 2000000 := Int.mul_le_mul_of_nonneg_left (by omega) (Int.natCast_nonneg _)
    omega
theorem z_1074 : zf FP.dconst1 ∧ zV FP.dconst1 = ((2 ^ 1074 : Nat) : Int) := by
  refine ⟨by unfold zf; decide +kernel, by decide +kernel⟩
theorem p_off_L {s : LSt} {r : Nat} (hr : r < 60) {t : Tp} (h : RTp s r t) {n : Nat} (hn : (tC t).toInt = (n : Int)) (hn2 : n ≤ tNn t) (hn3 : n ≤ 60) (h4 : s.runSteps r = Int32.ofNat n) {p : Nat} (hp : p ≤ 6) {w6 : Nat → Int32} (h6 : EX 40 0 w6 ((2 ^ 1074 : Nat) : Int)) : ∀ m k, k + m = n → ∃ o : Option Nat, (∀ (X Y : Int32 → (Nat → Int32) → (Nat → Int32) → Prop), (∀ j, o = some j → ∀ a b, X (Int32.ofNat j) a b) → (o = none → ∀ v a b, Y v a b) → ∀ w1 w2, EX 40 0 w2 (if k = 0 then 0 else p_T s r k) → wX1_off_L78 (Int32.ofNat n) (tNn t) (tLl t) (tRr t) (tSs t) (Int32.ofNat p) w6 X Y (m + 1) (Int32.ofNat k) w1 w2) ∧ (∀ (X Y : Int32 → (Nat → Int32) → Prop), (∀ j, o = some j → ∀ b, X (Int32.ofNat j) b) → (o = none → ∀ v b, Y v b) → ∀ b, EX 44 0 b (if k = 0 then 0 else p_T s r k) → EX 44 88 b ((2 ^ 1074 : Nat) : Int) → wX3_off_L57 s.runSteps s.lefts s.rights s.results (Int32.ofNat r) (Int32.ofNat p) X Y (m + 1) (Int32.ofNat k) b) := by
  intro m
  induction m with
  | zero =>
    intro k hk
    have e : k = n := by omega
    subst e
    refine ⟨none, fun X Y hX hY w1 w2 _ => ⟨fun _ => hY rfl _ _ _, fun c => absurd (Int32.le_refl _) c⟩, fun X Y hX hY b _ _ => ?_⟩
    unfold wX3_off_L57
    rw [w_cl (by omega), h4]
    exact ⟨w_in hr (by omega), fun _ => hY rfl _ _, fun c => absurd (Int32.le_refl _) c⟩
  | succ m ih =>
    intro k hk
    have hk2 : k < n := by omega
    obtain ⟨o, i1, i2⟩ := ih (k + 1) (by omega)
    obtain ⟨⟨e1, e2, e3⟩, b1, b2, b3⟩ := p_stp h hn hk2
    obtain ⟨⟨f1, f2, f3⟩, c1, c2, c3⟩ := p_stp h hn (show 0 < n by omega)
    have eb1 := b1.2
    have eb2 := b2.2
    have eb3 := b3.2
    have ec1 := c1.2
    obtain ⟨ob, on, oh⟩ := p_offbd h hn hn3 hk2 hp
    have tb := p_T_bd h hn k (by omega) (by omega)
    have tb2 := p_61 (show k + 1 ≤ 61 by omega)
    have tb3 := p_T_bd h hn (k + 1) (by omega) (by omega)
    have tb4 := p_61 (show k + 1 + 1 ≤ 61 by omega)
    have pm := z_pM
    have hP := z_P39
    have hP3 := z_P43
    have hP4 := z_P44
    have hp4 : (2 : Nat) ^ 1240 < 2 ^ 1408 := Nat.pow_lt_pow_right (by decide) (by decide)
    have hp5 : (2 : Nat) ^ 1074 < 2 ^ 1240 := Nat.pow_lt_pow_right (by decide) (by decide)
    obtain ⟨t1, t2⟩ := p_tb hp
    have hxt := p_xt hp
    have hv : vp_in (Int32.ofNat k) (tNn t) := w_inT (by omega) (by omega)
    have hv0 : vp_in (0 : Int32) (tNn t) := w_inT (k := 0) (by omega) (by omega)
    have hv7 : vp_in (Int32.ofNat p) 7 := w_in (by omega) (by omega)
    obtain ⟨j1, j2⟩ := p_3600 hr (show k < 60 by omega)
    obtain ⟨n1, n2, n3⟩ := z_dneg b3.1
    have T0 : ∀ x : Int, x = (if k = 0 then 0 else p_T s r k) → (k = 0 → x + zV (tLl t 0) = p_T s r k) ∧ (¬ k = 0 → x = p_T s r k) := by
      intro x hx
      refine ⟨fun q => ?_, fun q => ?_⟩
      · rw [hx, if_pos q, q, f1]
        show 0 + zV (s.lefts (60 * r + 0)) = zV (s.lefts (60 * r))
        rw [Nat.add_zero, Int.zero_add]
      · rw [hx, if_neg q]
    refine ⟨if p_offB s r k p < ((2 ^ 1074 : Nat) : Int) then o else some k, fun X Y hX hY w1 w2 hw => ?_, fun X Y hX hY b hb hb2 => ?_⟩
    · refine ⟨fun c => absurd c (w_nleO (by omega) (by omega) (by omega)), fun _ => ?_⟩
      have J106 : ∀ w, EX 40 0 w (p_T s r k) → wX1_off_J106 (tNn t) (tRr t) (tSs t) (Int32.ofNat p) w6 (Int32.ofNat k) w1 (wX1_off_L78 (Int32.ofNat n) (tNn t) (tLl t) (tRr t) (tSs t) (Int32.ofNat p) w6 X Y (m + 1)) X w := by
        intro w hw
        unfold wX1_off_J106
        rw [w_cl (by omega)]
        refine ⟨hv, q2_add hw b2.1 (by omega) (Or.inl rfl) (fun w11 g11 => q2_set g11 (fun w12 g12 => ⟨hv, q2_add g12 b3.1 (by omega) (Or.inr rfl) (fun w13 g13 => ?_)⟩))⟩
        have g11 : EX 40 0 w11 (p_T s r (k + 1)) := by
          have g11 : EX 40 0 w11 (p_T s r k + zV (tRr t k)) := g11
          rw [e2] at g11
          exact g11
        have g13 : EX 40 0 w13 (p_T s r (k + 1) - zV (s.results (60 * r + k))) := by
          have g13 : EX 40 0 w13 (p_T s r k + zV (tRr t k) + -zV (tSs t k)) := g13
          rw [e2, e3] at g13
          exact g13
        have J164 : ∀ w', EX 40 0 w' ((p_T s r (k + 1) - zV (s.results (60 * r + k))).natAbs : Int) → wX1_off_J164 (Int32.ofNat p) w6 (Int32.ofNat k) w11 (wX1_off_L78 (Int32.ofNat n) (tNn t) (tLl t) (tRr t) (tSs t) (Int32.ofNat p) w6 X Y (m + 1)) X w' := by
          intro w' hw'
          unfold wX1_off_J164
          rw [w_cl (by omega)]
          have e2x : (2 * xTens p).toInt = 2 * (10 : Int) ^ p := by rw [w_dbl2 (by omega), hxt]
          refine ⟨hv7, q2_times hw' (by rw [e2x]; omega) (fun w17 g17 => ?_)⟩
          rw [e2x] at g17
          have g17 : EX 40 0 w17 (p_offB s r k p) := g17
          refine q2_compare g17 h6 on (by omega) (by omega) (by omega) ⟨fun c x hx => ?_, fun c => ?_⟩
          · have c := z_cmp_lt0.mp c
            rw [if_pos c] at hX hY
            rw [hx, w_suc]
            exact i1 X Y hX hY w17 w11 (by rw [if_neg (by omega)]; exact g11)
          · have c : ¬ p_offB s r k p < _ := fun q => c (z_cmp_lt0.mpr q)
            rw [if_neg c] at hX hY
            exact hX k rfl _ _
        refine q2_sign g13 (by omega) (by omega) ⟨fun c => J164 w13 (EX_abs g13 (z_sg_ge.mp c)), fun c => q2_negate g13 (fun w26 g26 => J164 w26 ?_)⟩
        have c : ¬ 0 ≤ p_T s r (k + 1) - zV (s.results (60 * r + k)) := fun q => c (z_sg_ge.mpr q)
        rw [show ((p_T s r (k + 1) - zV (s.results (60 * r + k))).natAbs : Int) = -(p_T s r (k + 1) - zV (s.results (60 * r + k))) by omega]
        exact g26
      refine ⟨fun c => J106 w2 ?_, fun c => ⟨hv0, (show wX2_add (tLl t 0) 0 w2 _ from q2_add hw c1.1 (by omega) (Or.inl rfl) (fun w33 g33 => J106 w33 ?_))⟩⟩
      · rw [← (T0 _ rfl).2 (fun q => c (by rw [q]; rfl))]
        exact hw
      · have c0 : k = 0 := (w_eqI (b := 0) (by omega) (by omega)).mp c
        have g33 : EX 40 0 w33 ((if k = 0 then 0 else p_T s r k) + zV (tLl t 0)) := g33
        rw [(T0 _ rfl).1 c0] at g33
        exact g33
    · unfold wX3_off_L57
      rw [w_cl (by omega), h4]
      refine ⟨w_in hr (by omega), fun c => absurd c (w_nleO (by omega) (by omega) (by omega)), fun _ => ?_⟩
      have J85 : ∀ b, EX 44 (44 * 0) b (p_T s r k) → EX 44 (44 * 2) b ((2 ^ 1074 : Nat) : Int) → wX3_off_J85 s.rights s.results (Int32.ofNat r) (Int32.ofNat p) (Int32.ofNat k) (wX3_off_L57 s.runSteps s.lefts s.rights s.results (Int32.ofNat r) (Int32.ofNat p) X Y (m + 1)) X b := by
        intro b hb hb2
        unfold wX3_off_J85
        rw [j2]
        rw [e2] at b2 eb2
        rw [e3] at b3 eb3 n1 n2
        refine ⟨j1, q3_addNumber (s := 0) (by decide) hb b2.1 (by omega) (fun b8 g8 o8 => ?_)⟩
        have g8 : EX 44 (44 * 0) b8 (p_T s r (k + 1)) := g8
        refine q3_copy (s := 1) (t := 0) (by decide) (by decide) (by decide) g8 (fun b9 g9 o9 => ⟨j1, q3_addNumber (s := 1) (by decide) g9 n1 (by rw [n2]; omega) (fun b10 g10 o10 => ?_)⟩)
        rw [n2] at g10
        have g10 : EX 44 (44 * 1) b10 (p_T s r (k + 1) - zV (s.results (60 * r + k))) := g10
        have t8 : EX 44 (44 * 2) b8 ((2 ^ 1074 : Nat) : Int) := by
          refine Eq.trans (z_W_congr fun j hj => ?_) hb2
          show z_w (b8 (44 * 2 + j)) = z_w (b (44 * 2 + j))
          rw [o8 _ (by omega) (by omega)]
        have t10 : EX 44 (44 * 2) b10 ((2 ^ 1074 : Nat) : Int) := by
          refine Eq.trans (z_W_congr fun j hj => ?_) (EX_out t8 o9 (by omega))
          show z_w (b10 (44 * 2 + j)) = z_w (b9 (44 * 2 + j))
          rw [o10 _ (by omega) (by omega)]
        have s10 : EX 44 (44 * 0) b10 (p_T s r (k + 1)) := by
          refine Eq.trans (z_W_congr fun j hj => ?_) (EX_out g8 o9 (by omega))
          show z_w (b10 (44 * 0 + j)) = z_w (b9 (44 * 0 + j))
          rw [o10 _ (by omega) (by omega)]
        have J137 : ∀ b', EX 44 (44 * 1) b' ((p_T s r (k + 1) - zV (s.results (60 * r + k))).natAbs : Int) → EX 44 (44 * 2) b' ((2 ^ 1074 : Nat) : Int) → EX 44 (44 * 0) b' (p_T s r (k + 1)) → wX3_off_J137 (Int32.ofNat p) (Int32.ofNat k) (wX3_off_L57 s.runSteps s.lefts s.rights s.results (Int32.ofNat r) (Int32.ofNat p) X Y (m + 1)) X b' := by
          intro b' hb' hb2' hb0'
          refine q3_tens hp (fun v hv => ?_)
          have e2x : (2 * v).toInt = 2 * (10 : Int) ^ p := by rw [w_dbl2 (by omega), hv]
          refine q3_times (s := 1) (by decide) hb' (by rw [e2x]; omega) (fun b14 g14 o14 => ?_)
          rw [e2x] at g14
          have g14 : EX 44 (44 * 1) b14 (p_offB s r k p) := g14
          refine q3_compare (s := 1) (t := 2) (by decide) (by decide) g14 (EX_out hb2' o14 (by omega)) on (by omega) (by omega) (by omega) ⟨fun c x hx => ?_, fun c => ?_⟩
          · have c := z_cmp_lt0.mp c
            rw [if_pos c] at hX hY
            rw [hx, w_suc]
            exact i2 X Y hX hY b14 (by rw [if_neg (by omega)]; exact EX_out hb0' o14 (by omega)) (EX_out hb2' o14 (by omega))
          · have c : ¬ p_offB s r k p < _ := fun q => c (z_cmp_lt0.mpr q)
            rw [if_neg c] at hX hY
            exact hX k rfl _
        refine q3_sign (s := 1) (by decide) g10 (by omega) (by omega) ⟨fun c => J137 b10 (EX_abs g10 (z_sg_ge.mp c)) t10 s10, fun c => q3_negate (s := 1) (by decide) g10 (fun b21 g21 o21 => J137 b21 ?_ (EX_out t10 o21 (by omega)) (EX_out s10 o21 (by omega)))⟩
        have c : ¬ 0 ≤ p_T s r (k + 1) - zV (s.results (60 * r + k)) := fun q => c (z_sg_ge.mpr q)
        rw [show ((p_T s r (k + 1) - zV (s.results (60 * r + k))).natAbs : Int) = -(p_T s r (k + 1) - zV (s.results (60 * r + k))) by omega]
        exact g21
      refine ⟨fun c => J85 b ?_ hb2, fun c => ?_⟩
      · rw [← (T0 _ rfl).2 (fun q => c (by rw [q]; rfl))]
        exact hb
      · have c0 : k = 0 := (w_eqI (b := 0) (by omega) (by omega)).mp c
        have e60 : (60 : Int32) * Int32.ofNat r = Int32.ofNat (60 * r) := by
          rw [show (60 : Int32) = Int32.ofNat 60 from rfl, ← Int32.ofNat_mul]
        rw [e60, w_cl (by omega)]
        have f1' : tLl t 0 = s.lefts (60 * r) := f1
        rw [f1'] at c1 ec1
        refine ⟨w_in (by omega) (by omega), q3_addNumber (s := 0) (by decide) hb c1.1 (by omega) (fun b26 g26 o26 => J85 b26 ?_ ?_)⟩
        · have := (T0 _ rfl).1 c0
          rw [f1'] at this
          rw [this] at g26
          exact g26
        · refine Eq.trans (z_W_congr fun j hj => ?_) hb2
          show z_w (b26 (44 * 2 + j)) = z_w (b (88 + j))
          rw [o26 _ (by omega) (by omega)]
theorem p_c19 {ta : Nat → ClassId} {L : Nat} {xf : Nat → Int32} (hL : L ≤ 320) (v4 : Int32) (s : LSt) (hs : RR s) (h1 : 0 ≤ v4.toInt) (h2 : v4.toInt + 5 ≤ (L : Int)) : wL_19 (LSt.thrown s) (LSt.many s) (LSt.isWide s) (LSt.amountOf s) (LSt.accountOf s) (LSt.dayOf s) (LSt.given s) (LSt.givenOf s) (LSt.runs s) (LSt.runWide s) (LSt.runWay s) (LSt.runTotal s) (LSt.runSteps s) (LSt.lefts s) (LSt.rights s) (LSt.results s) (LSt.wide s) (LSt.dn s) (LSt.stepsAt s) (LSt.keeps s) (LSt.order s) (LSt.att s) (LSt.spareAmount s) (LSt.spareAccount s) (LSt.spareDay s) (LSt.cured s) (LSt.cureOf s) (LSt.shareOf s) (LSt.big s) (LSt.unitsOf s) (LSt.spare s) (LSt.halfFrom s) (LSt.halfMany s) (LSt.halfDone s) (LSt.halfTotal s) (LSt.isFar s) (LSt.of s) (LSt.cur s) (LSt.cs s) ta v4 xf L (LSt.cs s) (lst RR) := by
  have v1 := p_v (j := 1) hL h1 h2 (by decide)
  have v2 := p_v (j := 2) hL h1 h2 (by decide)
  unfold wL_19
  refine ⟨v1, v2, ?_⟩
  generalize xf (v4 + 1).toNatClampNeg = p0
  generalize xf (v4 + 2).toNatClampNeg = p1
  unfold bX1_off
  refine ⟨fun hin => ?_, fun hin => ?_⟩
  · obtain ⟨t, x, r1, r2, r3, r4, r5, r6, r7, r8⟩ := p_runs hs hin
    obtain ⟨n, n1, n2, n3, n4, n5⟩ := p_cnt r3
    refine ⟨fun x' hx' => ⟨fun t' ht' => ?_, fun q => by rw [r1] at q; cases q⟩, fun q => by rw [r2] at q; cases q⟩
    rw [r2] at hx'
    cases hx'
    rw [r1] at ht'
    cases ht'
    have v60 : vp_in p0 60 := by rw [r4]; exact w_in (by omega) (by omega)
    have hY := r3.2.2.1
    refine r7 _ ⟨fun _ => p_isIn (fun a b => ⟨fun _ => r6 _ ⟨rfl, fun c => ?_, fun c => ⟨v1, v2, ?_⟩⟩, fun q => absurd q (by decide)⟩) (fun a => ⟨fun q => absurd rfl q, fun _ => ⟨v1, v2, ?_⟩⟩), fun q => absurd q (by decide)⟩
    · obtain ⟨c1, c2, c3⟩ := p_39 a b rfl (n := 7) (by decide) (by decide)
      refine q2_clear (fun w4 g4 => q2_clear (fun w5 g5 => q2_add g5 z_1074.1 ?_ (Or.inl rfl) (fun w6 g6 => ?_)))
      · rw [z_1074.2]
        show 2 ^ 1074 < _
        exact Nat.pow_lt_pow_right (by decide) (by decide)
      have g6 : EX 40 0 w6 ((2 ^ 1074 : Nat) : Int) := by
        have g6 : EX 40 0 w6 (0 + zV FP.dconst1) := g6
        rw [z_1074.2, Int.zero_add] at g6
        exact g6
      rw [c2, n3]
      obtain ⟨o, k1, k2⟩ := p_off_L r5 r3 n5 n2 n1 n4 (show p1.toNatClampNeg ≤ 6 by omega) g6 n 0 (by omega)
      have m3 : ∀ (K : Int32 → Int32 → (Nat → Int32) → Prop), (∀ j, o = some j → ∀ b, K (Int32.ofNat j) 0 b) → (o = none → ∀ b, K (-1) 0 b) → wX3_off p0 (Int32.ofNat p1.toNatClampNeg) s.thrown s.runs s.runWay s.runSteps s.lefts s.rights s.results s.big K := by
        intro K hX hY2
        rw [← c2]
        refine r8 _ ⟨fun _ => p_in3 (fun _ _ => ⟨fun _ => ⟨v60, fun _ => ?_, fun q => absurd (by rw [← hY]; exact c) q⟩, fun q => absurd q (by decide)⟩) (fun q => by omega), fun q => absurd rfl q⟩
        refine q3_clear (s := 2) (by decide) (fun b1' e1' o1' => ⟨w_in (k := 121) (by omega) (by omega), fun b2' hb2' => ?_⟩)
        have e2' : EX 44 (44 * 2) b2' ((2 ^ 1074 : Nat) : Int) := by
          have hz : ∀ j, j < 44 → b1' (44 * 2 + j) = 0 := (EX_sign (n := 43) e1' (by have := z_P_pos 43; omega) (by have := z_P_pos 43; omega)).2.mpr rfl
          have hb := EX_bd 44 (44 * 2) b2'
          have hw : z_W (fun j => z_w (b2' (44 * 2 + j))) 44 = ((2 ^ 1074 : Nat) : Int) := by
            rw [z_W_congr (D' := z_pt 33 262144 0 0) (fun j hj => ?_), z_pt_sum (by omega)]
            · show (262144 + 0 * 4294967296 + 0 * 18446744073709551616 : Int) * ((2 ^ 1056 : Nat) : Int) = _
              rw [show (262144 + 0 * 4294967296 + 0 * 18446744073709551616 : Int) = ((2 ^ 18 : Nat) : Int) from rfl, ← Int.natCast_mul]
              exact congrArg (fun n : Nat => (n : Int)) (Nat.pow_add 2 18 1056).symm
            · rw [hb2']
              show z_w (if 44 * 2 + j = ((44 : Int32) * 2 + 33).toNatClampNeg then 262144 else b1' (44 * 2 + j)) = _
              rw [show ((44 : Int32) * 2 + 33).toNatClampNeg = 121 by decide]
              unfold z_pt
              by_cases q : j = 33
              · rw [if_pos (by omega), if_pos q]; rfl
              · rw [if_neg (by omega), if_neg q, hz j hj]
                split
                · rfl
                · split <;> rfl
          rw [hw] at hb
          show z_W (fun j => z_w (b2' (44 * 2 + j))) 44 = _
          rw [hw, Int.emod_eq_of_lt hb.1 hb.2]
        refine q3_clear (s := 0) (by decide) (fun b3' e3' o3' => ⟨n + 1, ?_⟩)
        have k2' := k2 (fun v b => K v 0 b) (fun _ b => K (-1) 0 b) hX (fun q v b => hY2 q b) b3' e3' (EX_out e2' o3' (by omega))
        rw [← r4, ← c2] at k2'
        exact k2'
      refine ⟨n + 1, k1 _ _ (fun j hj a' b' => ⟨v1, v2, ?_⟩) (fun hj v a' b' => ⟨v1, v2, ?_⟩) _ w4 g4⟩
      · refine m3 _ (fun j' hj' b => ?_) (fun hj' => by rw [hj] at hj'; cases hj')
        rw [hj] at hj'
        cases hj'
        exact ⟨fun _ => Or.inl hs, fun q => q rfl⟩
      · refine m3 _ (fun j' hj' => by rw [hj] at hj'; cases hj') (fun hj' b => ?_)
        exact ⟨fun _ => Or.inl hs, fun q => q rfl⟩
    · refine r8 _ ⟨fun _ => p_in3 (fun _ _ => ⟨fun _ => ⟨v60, fun q => absurd (by rw [hY]; exact q) c, fun _ => ⟨fun _ => Or.inl hs, fun q => q rfl⟩⟩, fun q => absurd q (by decide)⟩) (fun q => by omega), fun q => absurd rfl q⟩
    · refine r8 _ ⟨fun _ => p_in3 (fun _ _ => by omega) (fun _ => ⟨fun q => absurd rfl q, fun _ => ⟨fun _ => Or.inl hs, fun q => q rfl⟩⟩), fun q => absurd rfl q⟩
  · obtain ⟨q1, q2⟩ := p_norun hs hin
    unfold wX1_off_N
    refine q1 _ ⟨fun q => absurd rfl q, fun _ => ⟨v1, v2, ?_⟩⟩
    unfold wX3_off
    exact q2 _ ⟨fun q => absurd q (by decide), fun _ => ⟨fun _ => Or.inl hs, fun q => q rfl⟩⟩
