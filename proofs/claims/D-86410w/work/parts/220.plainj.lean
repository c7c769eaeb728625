/-! the plain law: losses; step, worst. By hand (gen/220.plainj.src.txt) -/
theorem p_isStep {s : LSt} {p0 p1 : Int32} {t : Tp} {cap : Nat} {lef : Nat → Option Nat} {n : Nat} (r6 : ∀ K : Option Nat → Prop, K (some (tA t)) → wJ2_get p0 (cLz s.cs) cap lef K) (r7 : ∀ K : Int32 → Prop, K 1 → wX1_isRun p0 (cLz s.cs) K) (hn : n ≤ 60) (h3 : tC t = Int32.ofNat n) {K : Int32 → Prop} (k1 : vp_in p1 n → K 1) (k0 : ¬ vp_in p1 n → K 0) : wX1_isStep p0 p1 (cLz s.cs) cap lef (tA t) (tC t) K := by
  refine r7 _ ⟨fun q => absurd q (by decide), fun _ => r6 _ ⟨rfl, ?_⟩⟩
  rw [h3]
  refine p_isIn (fun a b => ⟨fun q => absurd q (by decide), fun _ => k1 ?_⟩) (fun a => ⟨fun _ => k0 ?_, fun q => absurd rfl q⟩)
  · rw [p_pred (by omega)] at b
    have a : 0 ≤ p1.toInt := a
    exact vp_in_iff.mpr ⟨a, by omega⟩
  · rw [p_pred (by omega), show (0 : Int64).toInt = 0 from rfl] at a
    intro q
    have := vp_in_iff.mp q
    omega
theorem p_noStep {s : LSt} {p0 p1 : Int32} {n : Nat} (r4 : p0 = Int32.ofNat p0.toNatClampNeg) (r5 : p0.toNatClampNeg < 60) (r8 : ∀ K : Int32 → Prop, K 0 → wX3_noRun p0 s.runs K) (hn : n ≤ 60) (h4 : s.runSteps p0.toNatClampNeg = Int32.ofNat n) {K : Int32 → Prop} (k1 : vp_in p1 n → K 0) (k0 : ¬ vp_in p1 n → K 1) : wX3_noStep p0 p1 s.runs s.runSteps K := by
  refine r8 _ ⟨fun q => absurd rfl q, fun _ => ⟨?_, ?_⟩⟩
  · rw [r4]; exact w_in (by omega) (by omega)
  · rw [h4]
    refine p_in3 (fun a b => ⟨fun _ => k1 ?_, fun q => absurd q (by decide)⟩) (fun a => ⟨fun q => absurd rfl q, fun _ => k0 ?_⟩)
    · rw [p_pred (by omega)] at b
      have a : 0 ≤ p1.toInt := a
      exact vp_in_iff.mpr ⟨a, by omega⟩
    · rw [p_pred (by omega), show (0 : Int64).toInt = 0 from rfl] at a
      intro q
      have := vp_in_iff.mp q
      omega
/-- the loss of a step -/
def p_loss (s : LSt) (r k : Nat) : Int := zV (s.lefts (60 * r + k)) + zV (s.rights (60 * r + k)) - zV (s.results (60 * r + k))
theorem z_pM : 256 * (2 : Nat) ^ 1184 ≤ 2 ^ 1192 ∧ (2 : Nat) ^ 1192 < 2 ^ 1200 ∧ (2 : Nat) ^ 1200 ≤ 2 ^ 1240 ∧ (2 : Nat) ^ 1240 < 2 ^ 1279 ∧ (2 : Nat) ^ 1240 < 2 ^ 1407 ∧ (2 : Nat) ^ 1240 < 2 ^ 1280 := by
  refine ⟨?_, Nat.pow_lt_pow_right (by decide) (by decide), Nat.pow_le_pow_right (by decide) (by decide), Nat.pow_lt_pow_right (by decide) (by decide), Nat.pow_lt_pow_right (by decide) (by decide), Nat.pow_lt_pow_right (by decide) (by decide)⟩
  rw [show (2 : Nat) ^ 1192 = 2 ^ 8 * 2 ^ 1184 by rw [← Nat.pow_add]]
  exact Nat.mul_le_mul_right _ (by decide)
theorem p_lossb {s : LSt} {r : Nat} {t : Tp} (h : RTp s r t) {n : Nat} (hn : (tC t).toInt = (n : Int)) {k : Nat} (hk : k < n) : (p_loss s r k).natAbs ≤ 3 * 2 ^ 1184 := by
  obtain ⟨⟨e1, e2, e3⟩, b1, b2, b3⟩ := p_stp h hn hk
  rw [e1] at b1
  rw [e2] at b2
  rw [e3] at b3
  have c1 := b1.2
  have c2 := b2.2
  have c3 := b3.2
  unfold p_loss
  omega
theorem q_lose {s : LSt} {r : Nat} {t : Tp} (h : RTp s r t) {n : Nat} (hn : (tC t).toInt = (n : Int)) (hn2 : n ≤ tNn t) (hn3 : n ≤ 60) {k : Nat} (hk : k < n) {w : Nat → Int32} {K : (Nat → Int32) → Prop} (hK : ∀ w', EX 40 0 w' (p_loss s r k) → K w') : wX1_lose (Int32.ofNat k) w (tNn t) (tLl t) (tRr t) (tSs t) K := by
  obtain ⟨⟨e1, e2, e3⟩, b1, b2, b3⟩ := p_stp h hn hk
  have pm := z_pM
  have c1 := b1.2
  have c2 := b2.2
  have c3 := b3.2
  have hv : vp_in (Int32.ofNat k) (tNn t) := w_inT (by omega) (by omega)
  unfold wX1_lose
  rw [w_cl (by omega)]
  refine q2_clear (fun w1 f1 => ⟨hv, q2_add f1 b1.1 (by omega) (Or.inl rfl) (fun w2 f2 => ⟨hv, q2_add f2 b2.1 (by omega) (Or.inl rfl) (fun w3 f3 => ⟨hv, q2_add f3 b3.1 (by omega) (Or.inr rfl) (fun w4 f4 => hK w4 ?_)⟩)⟩)⟩)
  have f4 : EX 40 0 w4 (0 + zV (tLl t k) + zV (tRr t k) + -zV (tSs t k)) := f4
  unfold p_loss
  rw [← e1, ← e2, ← e3]
  rw [show (0 : Int) + zV (tLl t k) + zV (tRr t k) + -zV (tSs t k) = zV (tLl t k) + zV (tRr t k) - zV (tSs t k) by omega] at f4
  exact f4
theorem q3_loss {s : LSt} {r : Nat} (hr : r < 60) {t : Tp} (h : RTp s r t) {n : Nat} (hn : (tC t).toInt = (n : Int)) (hn3 : n ≤ 60) {k : Nat} (hk : k < n) {big : Nat → Int32} {K : (Nat → Int32) → Prop} (hK : ∀ b', EX 44 0 b' (p_loss s r k) → (∀ i, i < 1012 → 44 ≤ i → b' i = big i) → K b') : wX3_lossOf 0 (Int32.ofNat r) (Int32.ofNat k) s.lefts s.rights s.results big K := by
  obtain ⟨⟨e1, e2, e3⟩, b1, b2, b3⟩ := p_stp h hn hk
  rw [e1] at b1
  rw [e2] at b2
  rw [e3] at b3
  have pm := z_pM
  have c1 := b1.2
  have c2 := b2.2
  have c3 := b3.2
  obtain ⟨i1, i2⟩ := p_3600 hr (show k < 60 by omega)
  obtain ⟨n1, n2, n3⟩ := z_dneg b3.1
  unfold wX3_lossOf
  rw [i2]
  refine q3_clear (s := 0) (by decide) (fun w1 f1 o1 => ⟨i1, q3_addNumber (s := 0) (by decide) f1 b1.1 (by omega) (fun w2 f2 o2 => ⟨i1, q3_addNumber (s := 0) (by decide) f2 b2.1 (by omega) (fun w3 f3 o3 => ⟨i1, q3_addNumber (s := 0) (by decide) f3 n1 (by rw [n2]; omega) (fun w4 f4 o4 => hK w4 ?_ (fun i h1 h2 => ?_))⟩)⟩)⟩)
  · rw [n2] at f4
    unfold p_loss
    rw [show (0 : Int) + zV (s.lefts (60 * r + k)) + zV (s.rights (60 * r + k)) + -zV (s.results (60 * r + k)) = zV (s.lefts (60 * r + k)) + zV (s.rights (60 * r + k)) - zV (s.results (60 * r + k)) by omega] at f4
    exact f4
  · rw [o4 i h1 (by omega), o3 i h1 (by omega), o2 i h1 (by omega), o1 i (by omega)]
/-- words that stay hold the number -/
theorem EX_keep {n o : Nat} {f f' : Nat → Int32} {z : Int} (h : EX n o f z) (hf : ∀ i, i < o + n → f' i = f i) : EX n o f' z := by
  refine Eq.trans (z_W_congr fun j hj => ?_) h
  show z_w (f' (o + j)) = z_w (f (o + j))
  rw [hf _ (by omega)]
theorem z_kd53 (z : Int) : z_kd 1 z = z_rs 53 0 z := rfl
theorem p_c16 {ta : Nat → ClassId} {L : Nat} {xf : Nat → Int32} (hL : L ≤ 320) (v4 : Int32) (s : LSt) (hs : RR s) (h1 : 0 ≤ v4.toInt) (h2 : v4.toInt + 5 ≤ (L : Int)) : wL_16 (LSt.thrown s) (LSt.many s) (LSt.isWide s) (LSt.amountOf s) (LSt.accountOf s) (LSt.dayOf s) (LSt.given s) (LSt.givenOf s) (LSt.runs s) (LSt.runWide s) (LSt.runWay s) (LSt.runTotal s) (LSt.runSteps s) (LSt.lefts s) (LSt.rights s) (LSt.results s) (LSt.wide s) (LSt.dn s) (LSt.stepsAt s) (LSt.keeps s) (LSt.order s) (LSt.att s) (LSt.spareAmount s) (LSt.spareAccount s) (LSt.spareDay s) (LSt.cured s) (LSt.cureOf s) (LSt.shareOf s) (LSt.big s) (LSt.unitsOf s) (LSt.spare s) (LSt.halfFrom s) (LSt.halfMany s) (LSt.halfDone s) (LSt.halfTotal s) (LSt.isFar s) (LSt.of s) (LSt.cur s) (LSt.cs s) ta v4 xf L (LSt.cs s) (lst RR) := by
  have v1 := p_v (j := 1) hL h1 h2 (by decide)
  have v2 := p_v (j := 2) hL h1 h2 (by decide)
  have v3 := p_v (j := 3) hL h1 h2 (by decide)
  unfold wL_16
  refine ⟨v1, v2, v3, ?_⟩
  generalize xf (v4 + 1).toNatClampNeg = p0
  generalize xf (v4 + 2).toNatClampNeg = p1
  generalize xf (v4 + 3).toNatClampNeg = p2
  unfold bX1_step
  refine ⟨fun hin => ?_, fun hin => ?_⟩
  · obtain ⟨t, x, r1, r2, r3, r4, r5, r6, r7, r8⟩ := p_runs hs hin
    obtain ⟨n, n1, n2, n3, n4, n5⟩ := p_cnt r3
    refine ⟨fun x' hx' => ⟨fun t' ht' => ?_, fun q => by rw [r1] at q; cases q⟩, fun q => by rw [r2] at q; cases q⟩
    rw [r2] at hx'
    cases hx'
    rw [r1] at ht'
    cases ht'
    refine p_isStep r6 r7 n1 n3 (fun hv => ⟨fun _ => ?_, fun q => absurd q (by decide)⟩) (fun hv => ⟨fun q => absurd rfl q, fun _ => ⟨v1, v2, v3, ?_⟩⟩)
    · obtain ⟨k1, k2⟩ := p_ofn hv (by omega)
      obtain ⟨⟨e1, e2, e3⟩, b1, b2, b3⟩ := p_stp r3 n5 k1
      have lb := p_lossb r3 n5 k1
      have pm := z_pM
      have hvt : vp_in p1 (tNn t) := by rw [k2]; exact w_inT (by omega) (by omega)
      obtain ⟨i1, i2⟩ := p_3600 r5 (show p1.toNatClampNeg < 60 by omega)
      rw [← r4, ← k2] at i1 i2
      have v60 : vp_in p0 60 := by rw [r4]; exact w_in (by omega) (by omega)
      refine p_isIn (fun a b => ⟨fun _ => r6 _ ⟨rfl, fun c => ?_, fun c => ?_⟩, fun q => absurd q (by decide)⟩) (fun a => ⟨fun q => absurd rfl q, fun _ => ⟨v1, v2, v3, ?_⟩⟩)
      · rw [k2]
        refine q_lose r3 n5 n2 n1 k1 (fun w4 f4 => q2_toDouble f4 (by omega) (fun d w6 d1 d2 d3 d4 => ?_))
        have db : (zV d).natAbs ≤ 2 ^ 1192 := by
          rw [d3]
          have := z_rs_le (p := 53) (m := 0) (b := 1) (j := 1192) (v := p_loss s p0.toNatClampNeg p1.toNatClampNeg) (by decide) (by decide) (by decide) (by omega)
          omega
        obtain ⟨g1, g2, g3⟩ := z_dneg d1
        have m3 : ∀ (K : Int64 → Int32 → (Nat → Int32) → Prop), (∀ b6 : Nat → Int32, EX 44 0 b6 (p_loss s p0.toNatClampNeg p1.toNatClampNeg + -zV d) → ((¬ p2 = 3 → (wX3_nearest 0 1 b6 (fun r8 b9 => (wJ12_doubleToLongBits r8 (fun r10 => K r10 0 b9))))) ∧ (p2 = 3 → (wJ12_doubleToLongBits d (fun r11 => K r11 0 b6))))) → wX3_step p0 (Int32.ofNat p1.toNatClampNeg) p2 s.thrown s.runs s.runWide s.runSteps s.lefts s.rights s.results s.big K := by
          intro K hK
          rw [← k2]
          refine p_noStep r4 r5 r8 n1 n4 (fun _ => ⟨fun _ => ?_, fun q => absurd rfl q⟩) (fun q => absurd hv q)
          refine p_in3 (fun _ _ => ⟨fun _ x3 hx3 => ⟨fun _ => ?_, fun q => absurd c q⟩, fun q => absurd q (by decide)⟩) (fun q => by omega)
          rw [r4, k2]
          refine q3_loss r5 r3 n5 n1 k1 (fun b4 g4 _ => q3_nearest (s := 0) (by decide) g4 (by omega) (fun d' b6 c1 c2 c3 c4 => ?_))
          have e : d' = d := by
            refine z_ext c1 d1 (c2.trans d2.symm) ?_
            rw [c3, d3]; rfl
          subst e
          have g4' : EX 44 (44 * 0) b6 (p_loss s p0.toNatClampNeg p1.toNatClampNeg) := EX_keep g4 (fun i hi => c4 i (by omega))
          refine q3_addNumber (s := 0) (by decide) g4' g1 (by rw [g2]; omega) (fun b7 g7 _ => ?_)
          rw [g2] at g7
          exact hK b7 g7
        refine ⟨fun c3 => ?_, fun c3 => ?_⟩
        · refine q2_add d4 d1 (by omega) (Or.inr rfl) (fun w7 d7 => ?_)
          have d7 : EX 40 0 w7 (p_loss s p0.toNatClampNeg p1.toNatClampNeg + -zV d) := d7
          refine q2_toDouble d7 (by omega) (fun d' w8 c1 c2 c4 c5 => q12_bits c1 ⟨v1, v2, v3, ?_⟩)
          refine m3 _ (fun b6 g6 => ⟨fun _ => q3_nearest (s := 0) (by decide) g6 (by omega) (fun d'' b9 a1 a2 a3 a4 => ?_), fun q => absurd q c3⟩)
          have e : d'' = d' := by
            refine z_ext a1 c1 (a2.trans c2.symm) ?_
            rw [a3, c4]; rfl
          subst e
          exact q12_bits c1 ⟨fun _ => Or.inl hs, fun q => q rfl⟩
        · refine q12_bits d1 ⟨v1, v2, v3, ?_⟩
          exact m3 _ (fun b6 g6 => ⟨fun q => absurd c3 q, fun _ => q12_bits d1 ⟨fun _ => Or.inl hs, fun q => q rfl⟩⟩)
      · have fin : ∀ (u v : UInt64), pB u → u = v → ∀ (K : Int64 → Int32 → (Nat → Int32) → Prop), K (z_bt (decide (tW t ≠ 0)) u) 0 s.big → (((¬ p2 = 0 → ((¬ p2 = 1 → v = s.results (60 * p0.toNatClampNeg + p1.toNatClampNeg)) ∧ (p2 = 1 → v = s.rights (60 * p0.toNatClampNeg + p1.toNatClampNeg)))) ∧ (p2 = 0 → v = s.lefts (60 * p0.toNatClampNeg + p1.toNatClampNeg)))) → wX3_step p0 p1 p2 s.thrown s.runs s.runWide s.runSteps s.lefts s.rights s.results s.big K := by
          intro u v hu huv K hK hv'
          refine p_noStep r4 r5 r8 n1 n4 (fun _ => ⟨fun _ => ?_, fun q => absurd rfl q⟩) (fun q => absurd hv q)
          refine p_in3 (fun _ _ => ⟨fun _ x3 hx3 => ⟨fun q => absurd q c, fun _ => ⟨v60, ?_⟩⟩, fun q => absurd q (by decide)⟩) (fun q => by omega)
          subst hx3
          subst huv
          have w1 := r3.2.1
          rw [i2, ← w1]
          refine ⟨fun c0 => ⟨fun c1 => ⟨i1, ?_⟩, fun c1 => ⟨i1, ?_⟩⟩, fun c0 => ⟨i1, ?_⟩⟩
          · rw [← (hv'.1 c0).1 c1]; exact p_3bits hu hK
          · rw [← (hv'.1 c0).2 c1]; exact p_3bits hu hK
          · rw [← hv'.2 c0]; exact p_3bits hu hK
        refine ⟨fun c0 => ⟨fun c1 => ⟨hvt, p_8bits b3 ⟨v1, v2, v3, ?_⟩⟩, fun c1 => ⟨hvt, p_8bits b2 ⟨v1, v2, v3, ?_⟩⟩⟩, fun c0 => ⟨hvt, p_8bits b1 ⟨v1, v2, v3, ?_⟩⟩⟩
        · exact fin _ _ b3 e3 _ ⟨fun _ => Or.inl hs, fun q => q rfl⟩ ⟨fun _ => ⟨fun _ => rfl, fun q => absurd q c1⟩, fun q => absurd q c0⟩
        · exact fin _ _ b2 e2 _ ⟨fun _ => Or.inl hs, fun q => q rfl⟩ ⟨fun _ => ⟨fun q => absurd c1 q, fun _ => rfl⟩, fun q => absurd q c0⟩
        · exact fin _ _ b1 e1 _ ⟨fun _ => Or.inl hs, fun q => q rfl⟩ ⟨fun q => absurd c0 q, fun _ => rfl⟩
      · refine p_noStep r4 r5 r8 n1 n4 (fun _ => ⟨fun _ => ?_, fun q => absurd rfl q⟩) (fun q => absurd hv q)
        exact p_in3 (fun _ _ => by omega) (fun _ => ⟨fun q => absurd rfl q, fun _ => ⟨fun _ => Or.inl hs, fun q => q rfl⟩⟩)
    · exact p_noStep r4 r5 r8 n1 n4 (fun q => absurd q hv) (fun _ => ⟨fun q => absurd q (by decide), fun _ => ⟨fun _ => Or.inl hs, fun q => q rfl⟩⟩)
  · obtain ⟨q1, q2⟩ := p_norun hs hin
    unfold wX1_step_N wX1_isStep_N
    refine q1 _ ⟨fun _ => ⟨fun q => absurd rfl q, fun _ => ⟨v1, v2, v3, ?_⟩⟩, fun q => absurd rfl q⟩
    unfold wX3_step wX3_noStep
    exact q2 _ ⟨fun _ => ⟨fun q => absurd q (by decide), fun _ => ⟨fun _ => Or.inl hs, fun q => q rfl⟩⟩, fun q => absurd q (by decide)⟩
