/-! the plain law: sign, amount. By hand (gen/226.plainm.src.txt) -/
theorem p_sgn_L {s : LSt} {i : Nat} {A : Led} (hi : i < 12) (h : RLd s i A) {p1 p2 : Int32} {q : Nat → Bool} (hq1 : ¬ p1 = 0 → ∀ k, k < lLn A → (q k = true ↔ s.dayOf (60 * i + k) = p2)) (hq0 : p1 = 0 → ∀ k, k < lLn A → (q k = true ↔ s.accountOf (60 * i + k) = p2)) {X : Int32 → (Nat → Int32) → Prop} (hX : ∀ i' b, EX 44 (44 * 0) b (z_tot (p_am s i) q (lLn A)) → X i' b) : ∀ (m k : Nat), k + m = lLn A → ∀ b, EX 44 (44 * 0) b (z_tot (p_am s i) q k) → wX3_sign_L66 s.many s.amountOf s.accountOf s.dayOf (Int32.ofNat i) p1 p2 X (m + 1) (Int32.ofNat k) b := by
  have hn := h.1
  have hm := h.2.1
  intro m
  induction m with
  | zero =>
    intro k hk b hb
    have e : k = lLn A := by omega
    subst e
    unfold wX3_sign_L66
    rw [w_cl (by omega), hm]
    exact ⟨w_in hi (by omega), fun _ => hX _ _ hb, fun c => absurd (Int32.le_refl _) c⟩
  | succ m ih =>
    intro k hk b hb
    have hk2 : k < lLn A := by omega
    have am := p_amt h hk2
    have pw := z_p1174
    obtain ⟨i1, i2⟩ := p_60 hi (show k < 60 by omega)
    have J : ∀ x : Int32, (q k = true ↔ x = p2) → wX3_sign_J108 s.amountOf (Int32.ofNat i) p2 (Int32.ofNat k) b (wX3_sign_L66 s.many s.amountOf s.accountOf s.dayOf (Int32.ofNat i) p1 p2 X (m + 1)) x := by
      intro x hx
      unfold wX3_sign_J108
      rw [i2]
      refine ⟨fun c y hy => ?_, fun c => ⟨i1, q3_addNumber (s := 0) (by decide) hb (zk_f am.1) (by omega) (fun b' hb' _ y hy => ?_)⟩⟩
      · rw [hy, w_suc]
        refine ih (k + 1) (by omega) b ?_
        show EX 44 (44 * 0) b (z_tot (p_am s i) q k + (if q k then zV (p_am s i k) else 0))
        rw [if_neg (fun e => c (hx.mp e)), Int.add_zero]
        exact hb
      · rw [hy, w_suc]
        refine ih (k + 1) (by omega) b' ?_
        show EX 44 (44 * 0) b' (z_tot (p_am s i) q k + (if q k then zV (p_am s i k) else 0))
        rw [if_pos (hx.mpr c)]
        exact hb'
    unfold wX3_sign_L66
    rw [w_cl (by omega), hm, i2]
    exact ⟨w_in hi (by omega), fun c => absurd c (w_nleO (by omega) (by omega) (by omega)), fun _ => ⟨fun c => ⟨i1, J _ (hq1 c k hk2)⟩, fun c => ⟨i1, J _ (hq0 c k hk2)⟩⟩⟩
theorem p_c32 {ta : Nat → ClassId} {L : Nat} {xf : Nat → Int32} (hL : L ≤ 320) (v4 : Int32) (s : LSt) (hs : RR s) (h1 : 0 ≤ v4.toInt) (h2 : v4.toInt + 5 ≤ (L : Int)) : wL_32 (LSt.thrown s) (LSt.many s) (LSt.isWide s) (LSt.amountOf s) (LSt.accountOf s) (LSt.dayOf s) (LSt.given s) (LSt.givenOf s) (LSt.runs s) (LSt.runWide s) (LSt.runWay s) (LSt.runTotal s) (LSt.runSteps s) (LSt.lefts s) (LSt.rights s) (LSt.results s) (LSt.wide s) (LSt.dn s) (LSt.stepsAt s) (LSt.keeps s) (LSt.order s) (LSt.att s) (LSt.spareAmount s) (LSt.spareAccount s) (LSt.spareDay s) (LSt.cured s) (LSt.cureOf s) (LSt.shareOf s) (LSt.big s) (LSt.unitsOf s) (LSt.spare s) (LSt.halfFrom s) (LSt.halfMany s) (LSt.halfDone s) (LSt.halfTotal s) (LSt.isFar s) (LSt.of s) (LSt.cur s) (LSt.cs s) ta v4 xf L (LSt.cs s) (lst RR) := by
  have v1 := p_v (j := 1) hL h1 h2 (by decide)
  have v2 := p_v (j := 2) hL h1 h2 (by decide)
  have v3 := p_v (j := 3) hL h1 h2 (by decide)
  unfold wL_32
  refine ⟨v1, v2, v3, ?_⟩
  generalize xf (v4 + 1).toNatClampNeg = p0
  generalize xf (v4 + 2).toNatClampNeg = p1
  generalize xf (v4 + 3).toNatClampNeg = p2
  have bad : ∀ (K : Int32 → Int32 → (Nat → Int32) → Prop), K (-102) 0 s.big → ((p1.toInt < 0 ∨ 1 < p1.toInt) ∨ (p2.toInt < 0 ∨ (p1 = 0 ∧ 9 < p2.toInt) ∨ (¬ p1 = 0 ∧ 30 < p2.toInt))) → wX3_sign p0 p1 p2 s.thrown s.many s.amountOf s.accountOf s.dayOf s.big K := by
    intro K hK hb
    refine p_in3 (fun a b => ⟨fun q => absurd q (by decide), fun _ => ⟨fun c => ?_, fun c => ?_⟩⟩) (fun _ => ⟨fun _ => hK, fun q => absurd rfl q⟩)
    · have a : 0 ≤ p1.toInt := a
      have b : p1.toInt ≤ 1 := b
      refine p_in3 (fun a' b' => ?_) (fun _ => ⟨fun q => absurd rfl q, fun _ => hK⟩)
      have a' : 0 ≤ p2.toInt := a'
      have b' : p2.toInt ≤ 30 := b'
      exfalso
      rcases hb with hb | hb | hb | hb
      · omega
      · omega
      · exact c hb.1
      · omega
    · have a : 0 ≤ p1.toInt := a
      have b : p1.toInt ≤ 1 := b
      refine p_in3 (fun a' b' => ?_) (fun _ => ⟨fun q => absurd rfl q, fun _ => hK⟩)
      have a' : 0 ≤ p2.toInt := a'
      have b' : p2.toInt ≤ 9 := b'
      exfalso
      rcases hb with hb | hb | hb | hb
      · omega
      · omega
      · omega
      · exact hb.1 c
  have good : ∀ (K : Int32 → Int32 → (Nat → Int32) → Prop), (0 ≤ p1.toInt ∧ p1.toInt ≤ 1) → 0 ≤ p2.toInt → (p1 = 0 → p2.toInt ≤ 9) → (¬ p1 = 0 → p2.toInt ≤ 30) → (wX3_faultOf p0 s.many (fun (r_7 : Int32) => ((r_7 = (0 : Int32) → (wX3_clearBig (0 : Int32) s.big (fun (big_8 : Nat → Int32) => (∃ m66 : Nat, wX3_sign_L66 s.many s.amountOf s.accountOf s.dayOf p0 p1 p2 (fun (v4_19 : Int32) (big_20 : Nat → Int32) => (wX3_signOf (0 : Int32) big_20 (fun (r_21 : Int32) => K r_21 r_7 big_20))) m66 (0 : Int32) big_8)))) ∧ (¬ r_7 = (0 : Int32) → K (0 : Int32) r_7 s.big)))) → wX3_sign p0 p1 p2 s.thrown s.many s.amountOf s.accountOf s.dayOf s.big K := by
    intro K hp1 hp2 hp0 hp3 hF
    have z9 : (9 : Int64).toInt = 9 := rfl
    refine p_in3 (fun a b => ⟨fun q => absurd q (by decide), fun _ => ⟨fun c => p_in3 (fun a' b' => ⟨fun _ => hF, fun q => absurd q (by decide)⟩) (fun q => ?_), fun c => p_in3 (fun a' b' => ⟨fun _ => hF, fun q => absurd q (by decide)⟩) (fun q => ?_)⟩⟩) (fun q => ?_)
    · have q : p2.toInt < 0 ∨ 30 < p2.toInt := q
      have := hp3 c
      omega
    · have q : p2.toInt < 0 ∨ 9 < p2.toInt := q
      have := hp0 c
      omega
    · have q : p1.toInt < 0 ∨ 1 < p1.toInt := q
      omega
  have pe1 : ∀ x : Int32, 0 ≤ x.toInt → ¬ x = -1 := fun x hx q => by rw [q] at hx; exact absurd hx (by decide)
  have p11 : ∀ x : Int32, ¬ x = 0 → 0 ≤ x.toInt → x.toInt ≤ 1 → x = 1 := fun x h0 ha hb => by
    rw [← Int32.toInt_inj]
    have : x.toInt ≠ 0 := fun q => h0 (by rw [← Int32.toInt_inj, q]; rfl)
    show x.toInt = 1
    omega
  unfold wX0_sign bX1_sign
  refine ⟨fun hin => ⟨fun A hc => ?_, fun hn => ?_⟩, fun hin => ?_⟩
  · obtain ⟨h12, e0⟩ := p_12 hin
    have hA := p_row hs h12 hc
    have pw := z_p1174
    have hP := z_P39
    have hP3 := z_P43
    have pm := z_pM
    have main : ∀ (q2 q3 : Int32), (p1 = 0 → q2 = p2 ∧ q3 = -1) → (¬ p1 = 0 → q2 = -1 ∧ q3 = p2) → (0 ≤ p1.toInt ∧ p1.toInt ≤ 1) → 0 ≤ p2.toInt → (p1 = 0 → p2.toInt ≤ 9) → (¬ p1 = 0 → p2.toInt ≤ 30) → ∀ w1 : Nat → Int32, EX 40 0 w1 (z_tot (p_am s p0.toNatClampNeg) (p_sel s p0.toNatClampNeg q2 q3) (lLn A)) → ∀ (K' : Int32 → Prop) (K : Int32 → Int32 → (Nat → Int32) → Prop), (∀ v, K' v → v = z_sg (z_tot (p_am s p0.toNatClampNeg) (p_sel s p0.toNatClampNeg q2 q3) (lLn A)) → True) → (∀ b, K (z_sg (z_tot (p_am s p0.toNatClampNeg) (p_sel s p0.toNatClampNeg q2 q3) (lLn A))) 0 b) → wX3_sign p0 p1 p2 s.thrown s.many s.amountOf s.accountOf s.dayOf s.big K := by
      intro q2 q3 g0 g1 hp1 hp2 hp9 hp30 w1 _ _ K _ hK
      refine good K hp1 hp2 hp9 hp30 ?_
      have ht := p_totb hA (p_sel s p0.toNatClampNeg q2 q3) (Nat.le_refl _)
      refine p_faultOf hs (fun A' hc' _ => ⟨fun _ => ?_, fun h => absurd rfl h⟩) (fun _ q => by rw [hc] at q; cases q) (fun q => absurd hin q)
      refine q3_clear (s := 0) (by decide) (fun b' hb' _ => ⟨lLn A + 1, ?_⟩)
      have key := p_sgn_L (p1 := p1) (p2 := p2) (q := p_sel s p0.toNatClampNeg q2 q3) h12 hA (fun c k hk => ?_) (fun c k hk => ?_) (X := fun _ big_20 => wX3_signOf 0 big_20 (fun r_21 => K r_21 0 big_20)) (fun _ b hb => q3_sign (s := 0) (by decide) hb (by omega) (by omega) (hK b)) (lLn A) 0 (by omega) b' hb'
      · rw [← e0] at key
        exact key
      · obtain ⟨c1, c2⟩ := g1 c
        subst c1 c2
        unfold p_sel
        rw [decide_eq_true_iff]
        exact ⟨fun q => q.2.resolve_left (pe1 _ hp2), fun q => ⟨Or.inl rfl, Or.inr q⟩⟩
      · obtain ⟨c1, c2⟩ := g0 c
        subst c1 c2
        unfold p_sel
        rw [decide_eq_true_iff]
        exact ⟨fun q => q.1.resolve_left (pe1 _ hp2), fun q => ⟨Or.inr q, Or.inl rfl⟩⟩
    refine p_isIn (fun a b => ⟨fun q => absurd q (by decide), fun _ => ⟨fun c => ?_, fun c => ?_⟩⟩) (fun a => ⟨fun _ y hy => ⟨p_z1, fun f hf => ⟨v1, v2, v3, ?_⟩⟩, fun q => absurd rfl q⟩)
    · have a : 0 ≤ p1.toInt := a
      have b : p1.toInt ≤ 1 := b
      have c1 := p11 p1 c a b
      refine p_isIn (fun a' b' => ⟨fun _ => ⟨hin, p_cgs hs h12 hc, fun _ => ⟨fun q => absurd c1 q, fun _ => p_sum hA (fun w1 hw1 => ?_)⟩, fun q => absurd q c⟩, fun q => absurd q (by decide)⟩) (fun a' => ⟨fun q => absurd rfl q, fun _ y hy => ⟨p_z1, fun f hf => ⟨v1, v2, v3, ?_⟩⟩⟩)
      · have ht := p_totb hA (p_sel s p0.toNatClampNeg (-1) p2) (Nat.le_refl _)
        refine q2_sign hw1 (by omega) (by omega) (fun y hy => ⟨p_z1, fun f hf => ⟨v1, v2, v3, ?_⟩⟩)
        exact main (-1) p2 (fun q => absurd q c) (fun _ => ⟨rfl, rfl⟩) ⟨a, b⟩ a' (fun q => absurd q c) (fun _ => b') w1 hw1 (fun _ => True) _ (fun _ _ _ => trivial) (fun bg => p_okk rfl rfl p_z1 ((p_upd0 hf).trans hy) (Or.inl hs))
      · refine bad _ (p_okk rfl rfl p_z1 ((p_upd0 hf).trans hy) (Or.inl hs)) (Or.inr ?_)
        have a' : p2.toInt < 0 ∨ 30 < p2.toInt := a'
        rcases a' with a' | a'
        · exact Or.inl a'
        · exact Or.inr (Or.inr ⟨c, a'⟩)
    · have a : 0 ≤ p1.toInt := a
      have b : p1.toInt ≤ 1 := b
      refine p_isIn (fun a' b' => ⟨fun _ => ⟨hin, p_cgs hs h12 hc, fun q => absurd c q, fun _ => ⟨fun _ => p_sum hA (fun w1 hw1 => ?_), fun q => absurd q (by rw [c]; decide)⟩⟩, fun q => absurd q (by decide)⟩) (fun a' => ⟨fun q => absurd rfl q, fun _ y hy => ⟨p_z1, fun f hf => ⟨v1, v2, v3, ?_⟩⟩⟩)
      · have ht := p_totb hA (p_sel s p0.toNatClampNeg p2 (-1)) (Nat.le_refl _)
        refine q2_sign hw1 (by omega) (by omega) (fun y hy => ⟨p_z1, fun f hf => ⟨v1, v2, v3, ?_⟩⟩)
        exact main p2 (-1) (fun _ => ⟨rfl, rfl⟩) (fun q => absurd c q) ⟨a, b⟩ a' (fun _ => b') (fun q => absurd c q) w1 hw1 (fun _ => True) _ (fun _ _ _ => trivial) (fun bg => p_okk rfl rfl p_z1 ((p_upd0 hf).trans hy) (Or.inl hs))
      · refine bad _ (p_okk rfl rfl p_z1 ((p_upd0 hf).trans hy) (Or.inl hs)) (Or.inr ?_)
        have a' : p2.toInt < 0 ∨ 9 < p2.toInt := a'
        rcases a' with a' | a'
        · exact Or.inl a'
        · exact Or.inr (Or.inl ⟨c, a'⟩)
    · exact bad _ (p_okk rfl rfl p_z1 ((p_upd0 hf).trans hy) (Or.inl hs)) (Or.inl a)
  · obtain ⟨h12, e0⟩ := p_12 hin
    refine p_isIn (fun a b => ⟨fun q => absurd q (by decide), fun _ => ⟨fun c => ?_, fun c => ?_⟩⟩) (fun a => ⟨fun _ y hy => ⟨p_z1, fun f hf => ⟨v1, v2, v3, ?_⟩⟩, fun q => absurd rfl q⟩)
    · have a : 0 ≤ p1.toInt := a
      have b : p1.toInt ≤ 1 := b
      have c1 := p11 p1 c a b
      refine p_isIn (fun a' b' => ⟨fun _ => ⟨fun q => absurd hin q, fun _ => ⟨p_cgn hs h12 hn, fun _ => ⟨fun q => absurd c1 q, fun _ => p_sum0 (fun w' => Or.inl ⟨rfl, v1, v2, v3, ?_⟩)⟩, fun q => absurd q c⟩⟩, fun q => absurd q (by decide)⟩) (fun a' => ⟨fun q => absurd rfl q, fun _ y hy => ⟨p_z1, fun f hf => ⟨v1, v2, v3, ?_⟩⟩⟩)
      · refine good _ ⟨a, b⟩ a' (fun q => absurd q c) (fun _ => b') ?_
        exact p_faultOf hs (fun _ q _ => by rw [hn] at q; cases q) (fun _ _ => ⟨fun h => absurd h (by decide), fun _ => p_ern rfl (by decide) (Or.inl hs)⟩) (fun q => absurd hin q)
      · refine bad _ (p_okk rfl rfl p_z1 ((p_upd0 hf).trans hy) (Or.inl hs)) (Or.inr ?_)
        have a' : p2.toInt < 0 ∨ 30 < p2.toInt := a'
        rcases a' with a' | a'
        · exact Or.inl a'
        · exact Or.inr (Or.inr ⟨c, a'⟩)
    · have a : 0 ≤ p1.toInt := a
      have b : p1.toInt ≤ 1 := b
      refine p_isIn (fun a' b' => ⟨fun _ => ⟨fun q => absurd hin q, fun _ => ⟨p_cgn hs h12 hn, fun q => absurd c q, fun _ => ⟨fun _ => p_sum0 (fun w' => Or.inl ⟨rfl, v1, v2, v3, ?_⟩), fun q => absurd q (by rw [c]; decide)⟩⟩⟩, fun q => absurd q (by decide)⟩) (fun a' => ⟨fun q => absurd rfl q, fun _ y hy => ⟨p_z1, fun f hf => ⟨v1, v2, v3, ?_⟩⟩⟩)
      · refine good _ ⟨a, b⟩ a' (fun _ => b') (fun q => absurd c q) ?_
        exact p_faultOf hs (fun _ q _ => by rw [hn] at q; cases q) (fun _ _ => ⟨fun h => absurd h (by decide), fun _ => p_ern rfl (by decide) (Or.inl hs)⟩) (fun q => absurd hin q)
      · refine bad _ (p_okk rfl rfl p_z1 ((p_upd0 hf).trans hy) (Or.inl hs)) (Or.inr ?_)
        have a' : p2.toInt < 0 ∨ 9 < p2.toInt := a'
        rcases a' with a' | a'
        · exact Or.inl a'
        · exact Or.inr (Or.inl ⟨c, a'⟩)
    · exact bad _ (p_okk rfl rfl p_z1 ((p_upd0 hf).trans hy) (Or.inl hs)) (Or.inl a)
  · refine p_isIn (fun a b => ⟨fun q => absurd q (by decide), fun _ => ⟨fun c => ?_, fun c => ?_⟩⟩) (fun a => ⟨fun _ y hy => ⟨p_z1, fun f hf => ⟨v1, v2, v3, ?_⟩⟩, fun q => absurd rfl q⟩)
    · have a : 0 ≤ p1.toInt := a
      have b : p1.toInt ≤ 1 := b
      refine p_isIn (fun a' b' => ⟨fun _ => ⟨fun _ => Or.inr ⟨rfl, v1, v2, v3, ?_⟩, fun q => absurd q hin⟩, fun q => absurd q (by decide)⟩) (fun a' => ⟨fun q => absurd rfl q, fun _ y hy => ⟨p_z1, fun f hf => ⟨v1, v2, v3, ?_⟩⟩⟩)
      · refine good _ ⟨a, b⟩ a' (fun q => absurd q c) (fun _ => b') ?_
        exact p_faultOf hs (fun _ _ q => absurd q hin) (fun q _ => absurd q hin) (fun _ => ⟨fun h => absurd h (by decide), fun _ => p_ern rfl (by decide) (Or.inl hs)⟩)
      · refine bad _ (p_okk rfl rfl p_z1 ((p_upd0 hf).trans hy) (Or.inl hs)) (Or.inr ?_)
        have a' : p2.toInt < 0 ∨ 30 < p2.toInt := a'
        rcases a' with a' | a'
        · exact Or.inl a'
        · exact Or.inr (Or.inr ⟨c, a'⟩)
    · have a : 0 ≤ p1.toInt := a
      have b : p1.toInt ≤ 1 := b
      refine p_isIn (fun a' b' => ⟨fun _ => ⟨fun _ => Or.inr ⟨rfl, v1, v2, v3, ?_⟩, fun q => absurd q hin⟩, fun q => absurd q (by decide)⟩) (fun a' => ⟨fun q => absurd rfl q, fun _ y hy => ⟨p_z1, fun f hf => ⟨v1, v2, v3, ?_⟩⟩⟩)
      · refine good _ ⟨a, b⟩ a' (fun _ => b') (fun q => absurd c q) ?_
        exact p_faultOf hs (fun _ _ q => absurd q hin) (fun q _ => absurd q hin) (fun _ => ⟨fun h => absurd h (by decide), fun _ => p_ern rfl (by decide) (Or.inl hs)⟩)
      · refine bad _ (p_okk rfl rfl p_z1 ((p_upd0 hf).trans hy) (Or.inl hs)) (Or.inr ?_)
        have a' : p2.toInt < 0 ∨ 9 < p2.toInt := a'
        rcases a' with a' | a'
        · exact Or.inl a'
        · exact Or.inr (Or.inl ⟨c, a'⟩)
    · exact bad _ (p_okk rfl rfl p_z1 ((p_upd0 hf).trans hy) (Or.inl hs)) (Or.inl a)
theorem p_atX {s : LSt} {i : Nat} {A : Led} (h : RLd s i A) {p1 : Int32} {K : UInt64 → Prop} {E : String → Prop} (k : vp_in p1 (lLn A) → K (s.amountOf (60 * i + p1.toNatClampNeg))) (e : ¬ vp_in p1 (lLn A) → E "java/lang/ArrayIndexOutOfBoundsException") : wL_at_X (lK A) p1 (lLn A) (lAm A) K E := by
  have hn := h.1
  cases hk : lK A
  · refine ⟨by omega, e, fun hv => ?_⟩
    obtain ⟨c1, c2⟩ := p_ofn hv (by omega)
    have h1 := (h.2.2.2.1 _ c1).1
    rw [hk] at h1
    have h1 : FP.f2d (amN (lAm A) p1.toNatClampNeg) = s.amountOf (60 * i + p1.toNatClampNeg) := h1
    rw [h1]
    exact ⟨z_n64 (zk_f (p_amt h c1).1), k hv⟩
  · refine ⟨by omega, e, fun hv => ?_⟩
    obtain ⟨c1, c2⟩ := p_ofn hv (by omega)
    have h1 := (h.2.2.2.1 _ c1).1
    rw [hk] at h1
    have h1 : lAm A p1.toNatClampNeg = s.amountOf (60 * i + p1.toNatClampNeg) := h1
    rw [h1]
    exact k hv
theorem p_c3 {ta : Nat → ClassId} {L : Nat} {xf : Nat → Int32} (hL : L ≤ 320) (v4 : Int32) (s : LSt) (hs : RR s) (h1 : 0 ≤ v4.toInt) (h2 : v4.toInt + 5 ≤ (L : Int)) : wL_3 (LSt.thrown s) (LSt.many s) (LSt.isWide s) (LSt.amountOf s) (LSt.accountOf s) (LSt.dayOf s) (LSt.given s) (LSt.givenOf s) (LSt.runs s) (LSt.runWide s) (LSt.runWay s) (LSt.runTotal s) (LSt.runSteps s) (LSt.lefts s) (LSt.rights s) (LSt.results s) (LSt.wide s) (LSt.dn s) (LSt.stepsAt s) (LSt.keeps s) (LSt.order s) (LSt.att s) (LSt.spareAmount s) (LSt.spareAccount s) (LSt.spareDay s) (LSt.cured s) (LSt.cureOf s) (LSt.shareOf s) (LSt.big s) (LSt.unitsOf s) (LSt.spare s) (LSt.halfFrom s) (LSt.halfMany s) (LSt.halfDone s) (LSt.halfTotal s) (LSt.isFar s) (LSt.of s) (LSt.cur s) (LSt.cs s) ta v4 xf L (LSt.cs s) (lst RR) := by
  have v1 := p_v (j := 1) hL h1 h2 (by decide)
  have v2 := p_v (j := 2) hL h1 h2 (by decide)
  unfold wL_3
  refine ⟨v1, v2, ?_⟩
  generalize xf (v4 + 1).toNatClampNeg = p0
  generalize xf (v4 + 2).toNatClampNeg = p1
  unfold wX0_amount bX1_amount
  refine ⟨fun hin => ⟨fun A hc => ?_, fun hn => ?_⟩, fun hin => ?_⟩
  · obtain ⟨h12, e0⟩ := p_12 hin
    have hA := p_row hs h12 hc
    have hn := hA.1
    refine ⟨hin, p_cgs hs h12 hc, p_atX hA (fun hv => ?_) (fun hv => Or.inr ⟨rfl, v1, v2, ?_⟩)⟩
    · obtain ⟨c1, c2⟩ := p_ofn hv (by omega)
      have am := p_amt hA c1
      have ab : (zV (s.amountOf (60 * p0.toNatClampNeg + p1.toNatClampNeg))).natAbs ≤ 2 ^ 1201 := Nat.le_trans am.2 (Nat.pow_le_pow_right (by decide) (by decide))
      obtain ⟨i1, i2⟩ := p_idx hin hv hn
      refine q_bits (zk_f am.1) ab ⟨p_z1, fun f hf => ⟨v1, v2, ?_⟩⟩
      refine p_fault hs (fun _ _ _ _ => ⟨fun _ => ⟨hin, i1, ?_⟩, fun h => absurd rfl h⟩) (fun _ q => by rw [hc] at q; cases q) (fun q => absurd hin q) (fun A' hc' _ q => by rw [hc] at hc'; cases hc'; exact absurd hv q)
      rw [i2]
      exact q3_bitsOf (p_wide hA) (zk_f am.1) ab (p_okk rfl rfl p_z1 (p_upd0 hf) (Or.inl hs))
    · exact p_fault hs (fun A' hc' _ q => by rw [hc] at hc'; cases hc'; exact absurd q hv) (fun _ q => by rw [hc] at q; cases q) (fun q => absurd hin q) (fun _ _ _ _ => ⟨fun h => absurd h (by decide), fun _ => p_ern rfl (by decide) (Or.inl hs)⟩)
  · obtain ⟨h12, e0⟩ := p_12 hin
    refine ⟨fun h => absurd hin h, fun _ => ⟨p_cgn hs h12 hn, Or.inl ⟨rfl, v1, v2, ?_⟩⟩⟩
    exact p_fault hs (fun _ q _ _ => by rw [hn] at q; cases q) (fun _ _ => ⟨fun h => absurd h (by decide), fun _ => p_ern rfl (by decide) (Or.inl hs)⟩) (fun q => absurd hin q) (fun _ q _ _ => by rw [hn] at q; cases q)
  · refine ⟨fun _ => Or.inr ⟨rfl, v1, v2, ?_⟩, fun h => absurd h hin⟩
    exact p_fault hs (fun _ _ q _ => absurd q hin) (fun q _ => absurd q hin) (fun _ => ⟨fun h => absurd h (by decide), fun _ => p_ern rfl (by decide) (Or.inl hs)⟩) (fun _ _ q _ => absurd q hin)
