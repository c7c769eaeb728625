/-! the plain law: rounded, word. By hand (gen/214.plaing.src.txt) -/
theorem p_sum0 {p2 p3 : Int32} {w : Nat → Int32} {E : String → (Nat → Int32) → Prop} (hE : ∀ w', E "java/lang/NullPointerException" w') : wX1_sum_0 p2 p3 w (fun _ => False) E := q2_clear (fun w' _ => hE w')
theorem p_c23 {ta : Nat → ClassId} {L : Nat} {xf : Nat → Int32} (hL : L ≤ 320) (v4 : Int32) (s : LSt) (hs : RR s) (h1 : 0 ≤ v4.toInt) (h2 : v4.toInt + 5 ≤ (L : Int)) : wL_23 (LSt.thrown s) (LSt.many s) (LSt.isWide s) (LSt.amountOf s) (LSt.accountOf s) (LSt.dayOf s) (LSt.given s) (LSt.givenOf s) (LSt.runs s) (LSt.runWide s) (LSt.runWay s) (LSt.runTotal s) (LSt.runSteps s) (LSt.lefts s) (LSt.rights s) (LSt.results s) (LSt.wide s) (LSt.dn s) (LSt.stepsAt s) (LSt.keeps s) (LSt.order s) (LSt.att s) (LSt.spareAmount s) (LSt.spareAccount s) (LSt.spareDay s) (LSt.cured s) (LSt.cureOf s) (LSt.shareOf s) (LSt.big s) (LSt.unitsOf s) (LSt.spare s) (LSt.halfFrom s) (LSt.halfMany s) (LSt.halfDone s) (LSt.halfTotal s) (LSt.isFar s) (LSt.of s) (LSt.cur s) (LSt.cs s) ta v4 xf L (LSt.cs s) (lst RR) := by
  have v1 := p_v (j := 1) hL h1 h2 (by decide)
  unfold wL_23
  refine ⟨v1, ?_⟩
  generalize xf (v4 + 1).toNatClampNeg = p0
  unfold wX0_rounded bX1_rounded
  refine ⟨fun hin => ⟨fun A hc => ?_, fun hn => ?_⟩, fun hin => ?_⟩
  · obtain ⟨h12, e0⟩ := p_12 hin
    have hA := p_row hs h12 hc
    have pw := z_p1174
    have ht := p_totb hA (fun _ => true) (Nat.le_refl _)
    have ht : (p_all s p0.toNatClampNeg (lLn A)).natAbs ≤ 2 ^ 1180 := ht
    refine ⟨hin, p_cgs hs h12 hc, p_sum hA (fun w1 hw1 => ?_)⟩
    rw [p_all_sel] at hw1
    refine q_nearest hw1 (by omega) (fun d w2 d1 d2 d3 d4 => ?_)
    have db : (zV d).natAbs ≤ 2 ^ 1180 := by
      rw [d3]
      have := z_kr_le (k := lK A) (b := 1) (j := 1180) (z := p_all s p0.toNatClampNeg (lLn A)) (by decide) (by decide) (by omega)
      omega
    have db2 : (zV d).natAbs ≤ 2 ^ 1201 := Nat.le_trans db (Nat.pow_le_pow_right (by decide) (by decide))
    refine q_bits (zk_f d1) db2 ⟨p_z1, fun f hf => ⟨v1, ?_⟩⟩
    refine p_faultOf hs (fun A' hc' _ => ⟨fun _ => ⟨hin, ?_⟩, fun h => absurd rfl h⟩) (fun _ q => by rw [hc] at q; cases q) (fun q => absurd hin q)
    have hw := p_wide hA
    rw [e0] at hin ⊢
    rw [w_cl (by omega)]
    refine p_sumLedger (t := 0) h12 hA (by decide) (fun b hb ho => ⟨hin, ?_⟩)
    rw [w_cl (by omega)]
    refine q3_nearest (s := 0) (by decide) hb (by omega) (fun d' b' c1 c2 c3 c4 => ?_)
    have e : d' = d := by
      refine z_ext c1 (zk_f d1) (c2.trans d2.symm) ?_
      rw [c3, d3, z_kd_kr hw]
    subst e
    exact q3_bitsOf hw c1 db2 (p_okk rfl rfl p_z1 (p_upd0 hf) (Or.inl hs))
  · obtain ⟨h12, e0⟩ := p_12 hin
    refine ⟨fun h => absurd hin h, fun _ => ⟨p_cgn hs h12 hn, p_sum0 (fun w' => Or.inl ⟨rfl, v1, ?_⟩)⟩⟩
    exact p_faultOf hs (fun _ q _ => by rw [hn] at q; cases q) (fun _ _ => ⟨fun h => absurd h (by decide), fun _ => p_ern rfl (by decide) (Or.inl hs)⟩) (fun q => absurd hin q)
  · refine ⟨fun _ => Or.inr ⟨rfl, v1, ?_⟩, fun h => absurd h hin⟩
    exact p_faultOf hs (fun _ _ q => absurd q hin) (fun q _ => absurd q hin) (fun _ => ⟨fun h => absurd h (by decide), fun _ => p_ern rfl (by decide) (Or.inl hs)⟩)
/-- the words of a number, both sides -/
theorem p_word {w big : Nat → Int32} {z : Int} {t : Nat} (h : EX 40 0 w z) (h' : EX 44 (44 * t) big z) {j : Nat} (hj : j < 40) : w j = big (44 * t + j) := by
  have h : z_W (fun j => z_w (w (0 + j))) 40 = z % z_P 40 := h
  have h' : z_W (fun j => z_w (big (44 * t + j))) 44 = z % z_P 44 := h'
  have e : z_W (fun j => z_w (big (44 * t + j))) 40 = z % z_P 40 := by
    rw [← z_W_mod (n := 44) (k := 40) (fun j _ => z_w_bd _) (by decide), h']
    exact Int.emod_emod_of_dvd _ ⟨z_P 4, z_P_add 40 4⟩
  have := z_W_inj (n := 40) (fun j _ => z_w_bd _) (fun j _ => z_w_bd _) (h.trans e.symm) j hj
  rw [Nat.zero_add] at this
  exact z_w_inj this
theorem p_39 {p1 : Int32} {lo hi : Int64} (a : lo.toInt ≤ p1.toInt) (b : p1.toInt ≤ hi.toInt) (hlo : lo.toInt = 0) {n : Nat} (hn : hi.toInt < n) (h2 : n ≤ 2000) : p1.toNatClampNeg < n ∧ p1 = Int32.ofNat p1.toNatClampNeg ∧ vp_in p1 n := by
  have hv : vp_in p1 n := vp_in_iff.mpr ⟨by omega, by omega⟩
  exact ⟨(p_ofn hv h2).1, (p_ofn hv h2).2, hv⟩
theorem p_c24 {ta : Nat → ClassId} {L : Nat} {xf : Nat → Int32} (hL : L ≤ 320) (v4 : Int32) (s : LSt) (hs : RR s) (h1 : 0 ≤ v4.toInt) (h2 : v4.toInt + 5 ≤ (L : Int)) : wL_24 (LSt.thrown s) (LSt.many s) (LSt.isWide s) (LSt.amountOf s) (LSt.accountOf s) (LSt.dayOf s) (LSt.given s) (LSt.givenOf s) (LSt.runs s) (LSt.runWide s) (LSt.runWay s) (LSt.runTotal s) (LSt.runSteps s) (LSt.lefts s) (LSt.rights s) (LSt.results s) (LSt.wide s) (LSt.dn s) (LSt.stepsAt s) (LSt.keeps s) (LSt.order s) (LSt.att s) (LSt.spareAmount s) (LSt.spareAccount s) (LSt.spareDay s) (LSt.cured s) (LSt.cureOf s) (LSt.shareOf s) (LSt.big s) (LSt.unitsOf s) (LSt.spare s) (LSt.halfFrom s) (LSt.halfMany s) (LSt.halfDone s) (LSt.halfTotal s) (LSt.isFar s) (LSt.of s) (LSt.cur s) (LSt.cs s) ta v4 xf L (LSt.cs s) (lst RR) := by
  have v1 := p_v (j := 1) hL h1 h2 (by decide)
  have v2 := p_v (j := 2) hL h1 h2 (by decide)
  unfold wL_24
  refine ⟨v1, v2, ?_⟩
  generalize xf (v4 + 1).toNatClampNeg = p0
  generalize xf (v4 + 2).toNatClampNeg = p1
  unfold wX0_word bX1_word
  refine ⟨fun hin => ⟨fun A hc => ?_, fun hn => ?_⟩, fun hin => ?_⟩
  · obtain ⟨h12, e0⟩ := p_12 hin
    have hA := p_row hs h12 hc
    refine p_isIn (fun a b => ⟨fun _ => ⟨hin, p_cgs hs h12 hc, p_sum hA (fun w1 hw1 => ?_)⟩, fun h => absurd h (by decide)⟩) (fun a => ⟨fun h => absurd rfl h, fun _ y hy => ⟨p_z1, fun f hf => ⟨v1, v2, ?_⟩⟩⟩)
    · rw [p_all_sel] at hw1
      obtain ⟨c1, c2, c3⟩ := p_39 a b rfl (n := 40) (by decide) (by decide)
      refine ⟨c3, fun y hy => ⟨p_z1, fun f hf => ⟨v1, v2, ?_⟩⟩⟩
      refine p_in3 (fun _ _ => ⟨fun _ => ?_, fun h => absurd h (by decide)⟩) (fun h => by omega)
      refine p_faultOf hs (fun A' hc' _ => ⟨fun _ => ?_, fun h => absurd rfl h⟩) (fun _ q => by rw [hc] at q; cases q) (fun q => absurd hin q)
      rw [e0]
      refine p_sumLedger (t := 0) h12 hA (by decide) (fun b hb ho => ⟨?_, ?_⟩)
      · rw [c2]; exact w_in (by omega) (by decide)
      · refine p_okk rfl rfl p_z1 ?_ (Or.inl hs)
        have e := p_word hw1 hb c1
        rw [p_upd0 hf, hy, e]
        simp only [Nat.mul_zero, Nat.zero_add]
    · refine p_in3 (fun _ _ => by omega) (fun _ => ⟨fun h => absurd rfl h, fun _ => p_okk rfl rfl p_z1 ?_ (Or.inl hs)⟩)
      rw [p_upd0 hf, hy]
  · obtain ⟨h12, e0⟩ := p_12 hin
    refine p_isIn (fun a b => ⟨fun _ => ⟨fun h => absurd hin h, fun _ => ⟨p_cgn hs h12 hn, p_sum0 (fun w' => Or.inl ⟨rfl, v1, v2, ?_⟩)⟩⟩, fun h => absurd h (by decide)⟩) (fun a => ⟨fun h => absurd rfl h, fun _ y hy => ⟨p_z1, fun f hf => ⟨v1, v2, ?_⟩⟩⟩)
    · refine p_in3 (fun _ _ => ⟨fun _ => ?_, fun h => absurd h (by decide)⟩) (fun h => by omega)
      exact p_faultOf hs (fun _ q _ => by rw [hn] at q; cases q) (fun _ _ => ⟨fun h => absurd h (by decide), fun _ => p_ern rfl (by decide) (Or.inl hs)⟩) (fun q => absurd hin q)
    · refine p_in3 (fun _ _ => by omega) (fun _ => ⟨fun h => absurd rfl h, fun _ => p_okk rfl rfl p_z1 ?_ (Or.inl hs)⟩)
      rw [p_upd0 hf, hy]
  · refine p_isIn (fun a b => ⟨fun _ => ⟨fun _ => Or.inr ⟨rfl, v1, v2, ?_⟩, fun h => absurd h hin⟩, fun h => absurd h (by decide)⟩) (fun a => ⟨fun h => absurd rfl h, fun _ y hy => ⟨p_z1, fun f hf => ⟨v1, v2, ?_⟩⟩⟩)
    · refine p_in3 (fun _ _ => ⟨fun _ => ?_, fun h => absurd h (by decide)⟩) (fun h => by omega)
      exact p_faultOf hs (fun _ _ q => absurd q hin) (fun q _ => absurd q hin) (fun _ => ⟨fun h => absurd h (by decide), fun _ => p_ern rfl (by decide) (Or.inl hs)⟩)
    · refine p_in3 (fun _ _ => by omega) (fun _ => ⟨fun h => absurd rfl h, fun _ => p_okk rfl rfl p_z1 ?_ (Or.inl hs)⟩)
      rw [p_upd0 hf, hy]
