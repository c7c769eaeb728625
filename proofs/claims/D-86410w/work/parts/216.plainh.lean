/-! the plain law: compare, sign. By hand (gen/216.plainh.src.txt) -/
theorem z_dgt {a b : UInt64} (ha : zf a) (hb : zf b) : dgt a b ↔ zV b < zV a := by
  unfold dgt
  rw [z_dcmp ha hb]
  show some (compareOfLessAndEq (zV a) (zV b)) = _ ↔ _
  unfold compareOfLessAndEq
  split
  · simp only [Option.some.injEq, reduceCtorEq, false_iff]; omega
  · split
    · simp only [Option.some.injEq, reduceCtorEq, false_iff]; omega
    · simp only [Option.some.injEq, true_iff]; omega
theorem w_u64 (p : Int64) : p.toUInt64.toNat = p.toBitVec.toNat := rfl
theorem w_63 (p : Int64) : (p &&& 9223372036854775807).toInt = ((p.toUInt64.toNat % 9223372036854775808 : Nat) : Int) := by
  rw [w_and64 (k := 63) (by decide) rfl, w_mod64 p (by decide)]
  rfl
theorem w_le63 {p : Int64} {C : UInt64} (hC : C.toNat < 9223372036854775808) : (p &&& 9223372036854775807) ≤ C.toInt64 ↔ p.toUInt64 &&& 9223372036854775807 ≤ C := by
  have e : C.toInt64.toInt = (C.toNat : Int) := BitVec.toInt_eq_toNat_of_lt (show 2 * C.toNat < 2 ^ 64 by omega)
  rw [Int64.le_iff_toInt_le, w_63, e, UInt64.le_iff_toNat_le, z_and]
  omega
theorem w_fE (p : Int64) : ((jlshr p 52) &&& 2047) = 2047 ↔ ¬ zf p.toUInt64 := by
  have e : ((jlshr p 52) &&& 2047).toInt = ((p.toUInt64.toNat / 4503599627370496 % 2048 : Nat) : Int) := by
    rw [w_and64 (k := 11) (by decide) rfl, show (52 : Int32) = Int32.ofNat 52 from rfl, w_lshr (by decide)]
    have h1 := w_mod64 p (k := 64) (by decide)
    have h2 := p.toUInt64.toNat_lt
    rw [Nat.mod_eq_of_lt p.toBitVec.isLt] at h1
    have h1 : p.toInt % 18446744073709551616 = (p.toUInt64.toNat : Int) := h1
    show p.toInt / 4503599627370496 % 2048 = _
    omega
  rw [← Int64.toInt_inj, e]
  unfold zf
  rw [z_E]
  show ((p.toUInt64.toNat / 4503599627370496 % 2048 : Nat) : Int) = 2047 ↔ _
  omega
theorem z_c110 : zf 5102578377810771968 ∧ zV 5102578377810771968 = 2 ^ 1184 := by
  refine ⟨by unfold zf; decide +kernel, by decide +kernel⟩
theorem z_cn110 : zf 14325950414665547776 ∧ zV 14325950414665547776 = -2 ^ 1184 := by
  refine ⟨by unfold zf; decide +kernel, by decide +kernel⟩
theorem p_110 {p : Int64} : (p &&& 9223372036854775807) ≤ (5102578377810771968 : UInt64).toInt64 ↔ zf p.toUInt64 ∧ (zV p.toUInt64).natAbs ≤ 2 ^ 1184 := by
  rw [w_le63 (by decide), z_bits z_c110.1 (by decide), z_c110.2]
  rfl
theorem p_cmpX3 {p0 thrown : Int32} {p : Int64} {many : Nat → Int32} {amountOf : Nat → UInt64} {K : Int32 → Int32 → (Nat → Int32) → Prop} {big : Nat → Int32} (kb : ¬ (zf p.toUInt64 ∧ (zV p.toUInt64).natAbs ≤ 2 ^ 1184) → K (-102) 0 big) (kq : (zf p.toUInt64 ∧ (zV p.toUInt64).natAbs ≤ 2 ^ 1184) → wX3_faultOf p0 many (fun (r_2 : Int32) => ((r_2 = (0 : Int32) → (wX3_sumLedger (0 : Int32) p0 many amountOf big (fun (big_3 : Nat → Int32) => (wX3_addNumber (0 : Int32) (FP.dneg p.toUInt64) big_3 (fun (big_4 : Nat → Int32) => (wX3_signOf (0 : Int32) big_4 (fun (r_5 : Int32) => K r_5 r_2 big_4))))))) ∧ (¬ r_2 = (0 : Int32) → K (0 : Int32) r_2 big)))) : wX3_compare p0 p thrown many amountOf big K := by
  refine ⟨fun c => ?_, fun c => kb (fun h => (w_fE p).mp c h.1)⟩
  have hf : zf p.toUInt64 := Classical.byContradiction fun q => c ((w_fE p).mpr q)
  refine ⟨z_snl hf, fun r hr => ?_⟩
  subst hr
  rw [z_dgt hf z_c110.1, z_dlt hf z_cn110.1, z_c110.2, z_cn110.2]
  have e : ((2 : Int) ^ 1184) = ((2 ^ 1184 : Nat) : Int) := (w_p2 1184).symm
  rw [e]
  generalize (2 ^ 1184 : Nat) = M at *
  exact ⟨fun q => kb (fun h => by have := h.2; omega), fun q => ⟨fun q2 => kq ⟨hf, by omega⟩, fun q2 => kb (fun h => by have := h.2; omega)⟩⟩
theorem p_c22 {ta : Nat → ClassId} {L : Nat} {xf : Nat → Int32} (hL : L ≤ 320) (v4 : Int32) (s : LSt) (hs : RR s) (h1 : 0 ≤ v4.toInt) (h2 : v4.toInt + 5 ≤ (L : Int)) : wL_22 (LSt.thrown s) (LSt.many s) (LSt.isWide s) (LSt.amountOf s) (LSt.accountOf s) (LSt.dayOf s) (LSt.given s) (LSt.givenOf s) (LSt.runs s) (LSt.runWide s) (LSt.runWay s) (LSt.runTotal s) (LSt.runSteps s) (LSt.lefts s) (LSt.rights s) (LSt.results s) (LSt.wide s) (LSt.dn s) (LSt.stepsAt s) (LSt.keeps s) (LSt.order s) (LSt.att s) (LSt.spareAmount s) (LSt.spareAccount s) (LSt.spareDay s) (LSt.cured s) (LSt.cureOf s) (LSt.shareOf s) (LSt.big s) (LSt.unitsOf s) (LSt.spare s) (LSt.halfFrom s) (LSt.halfMany s) (LSt.halfDone s) (LSt.halfTotal s) (LSt.isFar s) (LSt.of s) (LSt.cur s) (LSt.cs s) ta v4 xf L (LSt.cs s) (lst RR) := by
  have v1 := p_v (j := 1) hL h1 h2 (by decide)
  have v2 := p_v (j := 2) hL h1 h2 (by decide)
  have v3 := p_v (j := 3) hL h1 h2 (by decide)
  unfold wL_22
  refine ⟨v1, v2, v3, ?_⟩
  generalize xf (v4 + 1).toNatClampNeg = p0
  generalize xf (v4 + 2).toNatClampNeg = q1
  generalize xf (v4 + 3).toNatClampNeg = q2
  generalize ((jlshl q1.toInt64 32) ||| (q2.toInt64 &&& 4294967295)) = p1
  unfold wX0_compare bX1_compare
  by_cases hp : zf p1.toUInt64 ∧ (zV p1.toUInt64).natAbs ≤ 2 ^ 1184
  · refine ⟨fun hin => ⟨fun A hc => ?_, fun hn => ?_⟩, fun hin => ?_⟩
    · obtain ⟨h12, e0⟩ := p_12 hin
      have hA := p_row hs h12 hc
      have pw := z_p1174
      have ht := p_totb hA (fun _ => true) (Nat.le_refl _)
      have ht : (p_all s p0.toNatClampNeg (lLn A)).natAbs ≤ 2 ^ 1180 := ht
      refine q12_bits z_c110.1 ⟨fun _ => ⟨hin, p_cgs hs h12 hc, p_sum hA (fun w1 hw1 => ⟨z_snl hp.1, ?_⟩)⟩, fun c => absurd (p_110.mpr hp) c⟩
      rw [p_all_sel] at hw1
      refine q2_add hw1 hp.1 (by omega) (Or.inr rfl) (fun w2 hw2 => ?_)
      have hw2 : EX 40 0 w2 (p_all s p0.toNatClampNeg (lLn A) + -zV p1.toUInt64) := hw2
      have hP := z_P39
      have hP3 := z_P43
      have hp3 : (2 : Nat) ^ 1240 ≤ 2 ^ 1279 := Nat.pow_le_pow_right (by decide) (by decide)
      have hp4 : (2 : Nat) ^ 1240 ≤ 2 ^ 1407 := Nat.pow_le_pow_right (by decide) (by decide)
      have hp5 : (2 : Nat) ^ 1184 + 2 ^ 1184 ≤ 2 ^ 1240 := by
        have : (2 : Nat) ^ 1185 = 2 ^ 1184 * 2 := Nat.pow_succ 2 1184
        have : (2 : Nat) ^ 1185 ≤ 2 ^ 1240 := Nat.pow_le_pow_right (by decide) (by decide)
        omega
      have hb : (p_all s p0.toNatClampNeg (lLn A) + -zV p1.toUInt64).natAbs < 2 ^ 1240 := by
        have := hp.2
        have : (2 : Nat) ^ 1180 < 2 ^ 1184 := Nat.pow_lt_pow_right (by decide) (by decide)
        omega
      refine q2_sign hw2 (by omega) (by omega) (fun y hy => ⟨p_z1, fun f hf => ⟨v1, v2, v3, ?_⟩⟩)
      refine p_cmpX3 (fun q => absurd hp q) (fun _ => ?_)
      refine p_faultOf hs (fun A' hc' _ => ⟨fun _ => ?_, fun h => absurd rfl h⟩) (fun _ q => by rw [hc] at q; cases q) (fun q => absurd hin q)
      rw [e0]
      obtain ⟨n1, n2, n3⟩ := z_dneg hp.1
      refine p_sumLedger (t := 0) h12 hA (by decide) (fun b hb1 ho => ?_)
      refine q3_addNumber (s := 0) (by decide) hb1 n1 (by rw [n2]; have := hp.2; omega) (fun b' hb' ho' => ?_)
      rw [n2] at hb'
      refine q3_sign (s := 0) (by decide) hb' (by omega) (by omega) ?_
      exact p_okk rfl rfl p_z1 ((p_upd0 hf).trans hy) (Or.inl hs)
    · obtain ⟨h12, e0⟩ := p_12 hin
      refine q12_bits z_c110.1 ⟨fun _ => ⟨fun h => absurd hin h, fun _ => ⟨p_cgn hs h12 hn, p_sum0 (fun w' => Or.inl ⟨rfl, v1, v2, v3, ?_⟩)⟩⟩, fun c => absurd (p_110.mpr hp) c⟩
      refine p_cmpX3 (fun q => absurd hp q) (fun _ => ?_)
      exact p_faultOf hs (fun _ q _ => by rw [hn] at q; cases q) (fun _ _ => ⟨fun h => absurd h (by decide), fun _ => p_ern rfl (by decide) (Or.inl hs)⟩) (fun q => absurd hin q)
    · refine q12_bits z_c110.1 ⟨fun _ => ⟨fun _ => Or.inr ⟨rfl, v1, v2, v3, ?_⟩, fun h => absurd h hin⟩, fun c => absurd (p_110.mpr hp) c⟩
      refine p_cmpX3 (fun q => absurd hp q) (fun _ => ?_)
      exact p_faultOf hs (fun _ _ q => absurd q hin) (fun q _ => absurd q hin) (fun _ => ⟨fun h => absurd h (by decide), fun _ => p_ern rfl (by decide) (Or.inl hs)⟩)
  · refine ⟨fun hin => ⟨fun A hc => ?_, fun hn => ?_⟩, fun hin => ?_⟩
    · refine q12_bits z_c110.1 ⟨fun c => absurd (p_110.mp c) hp, fun _ y hy => ⟨p_z1, fun f hf => ⟨v1, v2, v3, ?_⟩⟩⟩
      exact p_cmpX3 (fun _ => p_okk rfl rfl p_z1 ((p_upd0 hf).trans hy) (Or.inl hs)) (fun q => absurd q hp)
    · refine q12_bits z_c110.1 ⟨fun c => absurd (p_110.mp c) hp, fun _ y hy => ⟨p_z1, fun f hf => ⟨v1, v2, v3, ?_⟩⟩⟩
      exact p_cmpX3 (fun _ => p_okk rfl rfl p_z1 ((p_upd0 hf).trans hy) (Or.inl hs)) (fun q => absurd q hp)
    · refine q12_bits z_c110.1 ⟨fun c => absurd (p_110.mp c) hp, fun _ y hy => ⟨p_z1, fun f hf => ⟨v1, v2, v3, ?_⟩⟩⟩
      exact p_cmpX3 (fun _ => p_okk rfl rfl p_z1 ((p_upd0 hf).trans hy) (Or.inl hs)) (fun q => absurd q hp)
