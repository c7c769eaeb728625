/-! the plain law: filter. By hand (gen/244.plainv.src.txt) -/
theorem p_another {k : Bool} {p : Int32} {c : Nat} (h : p = Int32.ofNat c) (hc : c ≤ 60) {K : Option Nat → Nat → Nat → Nat → Nat → Nat → Prop} (hK : ∀ a b1 b2 b3 b4, K (some a) a b1 b2 b3 b4) : wL_another k p K := by
  cases k
  · exact fun a => p_init5 h hc (fun b1 b2 b3 b4 => hK a b1 b2 b3 b4)
  · exact fun a => p_init5 h hc (fun b1 b2 b3 b4 => hK a b1 b2 b3 b4)
theorem p_fl3 {s : LSt} (hs : RR s) {p0 p1 p2 : Int32} {K : Int32 → Int32 → (Nat → Int32) → (Nat → Int32) → (Nat → UInt64) → (Nat → Int32) → (Nat → Int32) → (Nat → Int32) → (Nat → UInt64) → (Nat → Int32) → (Nat → Int32) → Int32 → Prop} (kb : (p2.toInt < -1 ∨ 9 < p2.toInt) → K (-102) 0 s.many s.isWide s.amountOf s.accountOf s.dayOf s.given s.spareAmount s.spareAccount s.spareDay s.spare) (ko : ¬ vp_in p0 12 → K 0 2 s.many s.isWide s.amountOf s.accountOf s.dayOf s.given s.spareAmount s.spareAccount s.spareDay s.spare) (ko1 : ¬ vp_in p1 12 → K 0 2 s.many s.isWide s.amountOf s.accountOf s.dayOf s.given s.spareAmount s.spareAccount s.spareDay s.spare) (kn : vp_in p0 12 → vp_in p1 12 → cS s.cs p1.toNatClampNeg = none → K 0 1 s.many s.isWide s.amountOf s.accountOf s.dayOf s.given s.spareAmount s.spareAccount s.spareDay s.spare) (kg : ∀ A, vp_in p0 12 → vp_in p1 12 → cS s.cs p1.toNatClampNeg = some A → ∀ sa sc sd am ac da, p_spr s (p_fl s p1.toNatClampNeg p2 (lLn A)) sa sc sd → (∀ l, l < (p_fl s p1.toNatClampNeg p2 (lLn A)).length → am (60 * p0.toNatClampNeg + l) = sa l ∧ ac (60 * p0.toNatClampNeg + l) = sc l ∧ da (60 * p0.toNatClampNeg + l) = sd l) → (∀ j, (j < 60 * p0.toNatClampNeg ∨ 60 * p0.toNatClampNeg + 60 ≤ j) → am j = s.amountOf j ∧ ac j = s.accountOf j ∧ da j = s.dayOf j) → K (Int32.ofNat (p_fl s p1.toNatClampNeg p2 (lLn A)).length) 0 (upd s.many p0.toNatClampNeg (Int32.ofNat (p_fl s p1.toNatClampNeg p2 (lLn A)).length)) (upd s.isWide p0.toNatClampNeg (vp_nar .boolean (s.isWide p1.toNatClampNeg))) am ac da (upd s.given p0.toNatClampNeg 0) sa sc sd (Int32.ofNat (p_fl s p1.toNatClampNeg p2 (lLn A)).length)) : wX3_filter p0 p1 p2 s.thrown s.many s.isWide s.amountOf s.accountOf s.dayOf s.given s.spareAmount s.spareAccount s.spareDay s.spare K := by
  refine p_in3 (fun a b => ⟨fun _ => p_in3 (fun a0 b0 => ⟨fun _ => ?_, fun h => absurd h (by decide)⟩) (fun q => ⟨fun h => absurd rfl h, fun _ => ⟨fun h => absurd h (by decide), fun _ => ko (fun v => ?_)⟩⟩), fun h => absurd h (by decide)⟩) (fun q => ⟨fun h => absurd rfl h, fun _ => kb q⟩)
  · have a : -1 ≤ p2.toInt := a
    have a0 : 0 ≤ p0.toInt := a0
    have b0 : p0.toInt ≤ 11 := b0
    have hin : vp_in p0 12 := vp_in_iff.mpr ⟨a0, by omega⟩
    obtain ⟨h12, e0⟩ := p_12 hin
    refine p_faultOf hs (fun A hc hin1 => ⟨fun _ => ⟨lLn A + 1, ?_⟩, fun h => absurd rfl h⟩) (fun hin1 q => ⟨fun h => absurd h (by decide), fun _ => kn hin hin1 q⟩) (fun q => ⟨fun h => absurd h (by decide), fun _ => ko1 q⟩)
    obtain ⟨j12, f0⟩ := p_12 hin1
    have hA := p_row hs j12 hc
    have hn := hA.1
    have hl := p_fl_len s p1.toNatClampNeg p2 (lLn A)
    have hp2 : p2 < 0 ↔ p2 = -1 := by
      rw [Int32.lt_iff_toInt_lt, Int32.toInt_zero, ← Int32.toInt_inj, show (-1 : Int32).toInt = -1 by decide]
      omega
    have key := q3_fl_L j12 hA hp2 (X := fun v4_27 spareAmount_28 spareAccount_29 spareDay_30 spare_31 => vp_in p1 12 ∧ (wX3_fromSpare p0 (s.isWide p1.toNatClampNeg) s.many s.isWide s.amountOf s.accountOf s.dayOf s.given spareAmount_28 spareAccount_29 spareDay_30 spare_31 (fun r_32 many_33 isWide_34 amountOf_35 accountOf_36 dayOf_37 given_38 => K r_32 0 many_33 isWide_34 amountOf_35 accountOf_36 dayOf_37 given_38 spareAmount_28 spareAccount_29 spareDay_30 spare_31))) (fun v sa sc sd hsp => ⟨hin1, ?_⟩) (lLn A) 0 (by omega) s.spareAmount s.spareAccount s.spareDay (fun x v hx => by cases hx)
    · rw [← f0] at key
      exact key
    · have k2 := q3_fromSpare (s := s) (w := s.isWide p1.toNatClampNeg) h12 (show (p_fl s p1.toNatClampNeg p2 (lLn A)).length ≤ 60 by omega) (sa := sa) (sc := sc) (sd := sd) (K := fun r_32 many_33 isWide_34 amountOf_35 accountOf_36 dayOf_37 given_38 => K r_32 0 many_33 isWide_34 amountOf_35 accountOf_36 dayOf_37 given_38 sa sc sd (Int32.ofNat (p_fl s p1.toNatClampNeg p2 (lLn A)).length)) (fun am ac da g1 g2 => kg A hin hin1 hc sa sc sd am ac da hsp g1 g2)
      rw [← e0] at k2
      exact k2
  · have q : p0.toInt < 0 ∨ 11 < p0.toInt := q
    have := vp_in_iff.mp v
    omega
theorem p_c6 {ta : Nat → ClassId} {L : Nat} {xf : Nat → Int32} (hL : L ≤ 320) (v4 : Int32) (s : LSt) (hs : RR s) (h1 : 0 ≤ v4.toInt) (h2 : v4.toInt + 5 ≤ (L : Int)) : wL_6 (LSt.thrown s) (LSt.many s) (LSt.isWide s) (LSt.amountOf s) (LSt.accountOf s) (LSt.dayOf s) (LSt.given s) (LSt.givenOf s) (LSt.runs s) (LSt.runWide s) (LSt.runWay s) (LSt.runTotal s) (LSt.runSteps s) (LSt.lefts s) (LSt.rights s) (LSt.results s) (LSt.wide s) (LSt.dn s) (LSt.stepsAt s) (LSt.keeps s) (LSt.order s) (LSt.att s) (LSt.spareAmount s) (LSt.spareAccount s) (LSt.spareDay s) (LSt.cured s) (LSt.cureOf s) (LSt.shareOf s) (LSt.big s) (LSt.unitsOf s) (LSt.spare s) (LSt.halfFrom s) (LSt.halfMany s) (LSt.halfDone s) (LSt.halfTotal s) (LSt.isFar s) (LSt.of s) (LSt.cur s) (LSt.cs s) ta v4 xf L (LSt.cs s) (lst RR) := by
  have v1 := p_v (j := 1) hL h1 h2 (by decide)
  have v2 := p_v (j := 2) hL h1 h2 (by decide)
  have v3 := p_v (j := 3) hL h1 h2 (by decide)
  unfold wL_6
  refine ⟨v1, v2, v3, ?_⟩
  generalize xf (v4 + 1).toNatClampNeg = p0
  generalize xf (v4 + 2).toNatClampNeg = p1
  generalize xf (v4 + 3).toNatClampNeg = p2
  have em1 : (-1 : Int32).toInt = -1 := by decide
  have e9 : (9 : Int32).toInt = 9 := by decide
  have em1L : (-1 : Int64).toInt = -1 := by decide
  have e9L : (9 : Int64).toInt = 9 := by decide
  unfold wX0_filter bX1_filter
  have bad : ∀ (f : Nat → Int64), (p2.toInt < -1 ∨ 9 < p2.toInt) → ∀ K : Int32 → Int32 → (Nat → Int32) → (Nat → Int32) → (Nat → UInt64) → (Nat → Int32) → (Nat → Int32) → (Nat → Int32) → (Nat → UInt64) → (Nat → Int32) → (Nat → Int32) → Int32 → Prop, K (-102) 0 s.many s.isWide s.amountOf s.accountOf s.dayOf s.given s.spareAmount s.spareAccount s.spareDay s.spare → wX3_filter p0 p1 p2 s.thrown s.many s.isWide s.amountOf s.accountOf s.dayOf s.given s.spareAmount s.spareAccount s.spareDay s.spare K := by
    intro f hp K hK
    exact p_in3 (fun a b => by omega) (fun _ => ⟨fun h => absurd rfl h, fun _ => hK⟩)
  refine ⟨fun hin => ⟨fun hin1 => ⟨fun hp => ⟨fun A hc => ?_, fun hn => ?_⟩, fun hp => ?_⟩, fun hin1 => ?_⟩, fun hin => ?_⟩
  · obtain ⟨hp1, hp2⟩ := hp
    rw [Int32.le_iff_toInt_le, em1] at hp1
    rw [Int32.le_iff_toInt_le, e9] at hp2
    obtain ⟨h12, e0⟩ := p_12 hin
    obtain ⟨j12, f0⟩ := p_12 hin1
    have hA := p_row hs j12 hc
    have hn := hA.1
    have hl := p_fl_len s p1.toNatClampNeg p2 (lLn A)
    refine p_isIn (fun a b => ⟨fun _ => ⟨hin, hin1, p_cgs hs j12 hc, lLn A + 1, ?_⟩, fun h => absurd h (by decide)⟩) (fun q => by omega)
    refine q_fl_L39 hA (fun v => p_another rfl (by omega) (fun a b1 b2 b3 b4 => ⟨rfl, lLn A + 1, ?_⟩)) (lLn A) 0 (by omega)
    refine q_fl_L96 hA (fun u v ac9 da9 am9 hh => ⟨hin, fun f7 h7 y hy => ⟨p_z1, fun f hf => ⟨v1, v2, v3, ?_⟩⟩⟩) (lLn A) 0 (by omega) _ _ _ (fun x v hx => by cases hx)
    rw [w_cl (by omega)]
    refine p_fl3 hs (fun q => by omega) (fun q => absurd hin q) (fun q => absurd hin1 q) (fun _ _ q => by rw [hc] at q; cases q) (fun A' _ _ hc' sa sc sd am ac da hsp g1 g2 => ?_)
    rw [hc] at hc'
    cases hc'
    refine p_okk rfl rfl p_z1 ((p_upd0 hf).trans hy) ?_
    rw [h7]
    exact p_cpS hs h12 (by omega) (fun v hv => by
      obtain ⟨l, a1, a2⟩ := p_fl_mem hv
      rw [a2]
      have x1 := hA.2.2.2.2.1 l a1
      have x2 := hA.2.2.2.2.2.1 l a1
      rw [← x1.1, ← x2.1]
      exact ⟨x1.2, x2.2⟩) hh hsp g1 g2 (ad := (a, b1, b2, b3, b4)) hA.2.2.1
  · obtain ⟨hp1, hp2⟩ := hp
    rw [Int32.le_iff_toInt_le, em1] at hp1
    rw [Int32.le_iff_toInt_le, e9] at hp2
    obtain ⟨j12, f0⟩ := p_12 hin1
    refine p_isIn (fun a b => ⟨fun _ => ⟨fun q => absurd hin q, fun _ => ⟨fun q => absurd hin1 q, fun _ => ⟨p_cgn hs j12 hn, 1, Or.inl ⟨rfl, v1, v2, v3, ?_⟩⟩⟩⟩, fun h => absurd h (by decide)⟩) (fun q => by omega)
    exact p_fl3 hs (fun q => by omega) (fun q => absurd hin q) (fun q => absurd hin1 q) (fun _ _ _ => p_ern rfl (by decide) (Or.inl hs)) (fun A' _ _ hc' => by rw [hn] at hc'; cases hc')
  · have hq : p2.toInt < -1 ∨ 9 < p2.toInt := by
      by_cases c : -1 ≤ p2.toInt
      · refine Or.inr (Int.not_le.mp fun d => hp ⟨?_, ?_⟩)
        · rw [Int32.le_iff_toInt_le, em1]; exact c
        · rw [Int32.le_iff_toInt_le, e9]; exact d
      · exact Or.inl (by omega)
    refine p_isIn (fun a b => by omega) (fun _ => ⟨fun h => absurd rfl h, fun _ y hy => ⟨p_z1, fun f hf => ⟨v1, v2, v3, bad f hq _ (p_okk rfl rfl p_z1 ((p_upd0 hf).trans hy) (Or.inl hs))⟩⟩⟩)
  · refine p_isIn (fun a b => ⟨fun _ => ⟨fun q => absurd hin q, fun _ => ⟨fun _ => Or.inr ⟨rfl, v1, v2, v3, ?_⟩, fun q => absurd q hin1⟩⟩, fun h => absurd h (by decide)⟩) (fun q => ⟨fun h => absurd rfl h, fun _ y hy => ⟨p_z1, fun f hf => ⟨v1, v2, v3, bad f (by omega) _ (p_okk rfl rfl p_z1 ((p_upd0 hf).trans hy) (Or.inl hs))⟩⟩⟩)
    exact p_fl3 hs (fun q => by omega) (fun q => absurd hin q) (fun _ => p_ern rfl (by decide) (Or.inl hs)) (fun _ q => absurd q hin1) (fun A' _ q => absurd q hin1)
  · refine p_isIn (fun a b => ⟨fun _ => ⟨fun _ => Or.inr ⟨rfl, v1, v2, v3, ?_⟩, fun q => absurd q hin⟩, fun h => absurd h (by decide)⟩) (fun q => ⟨fun h => absurd rfl h, fun _ y hy => ⟨p_z1, fun f hf => ⟨v1, v2, v3, bad f (by omega) _ (p_okk rfl rfl p_z1 ((p_upd0 hf).trans hy) (Or.inl hs))⟩⟩⟩)
    exact p_fl3 hs (fun q => by omega) (fun _ => p_ern rfl (by decide) (Or.inl hs)) (fun q => p_ern rfl (by decide) (Or.inl hs)) (fun q => absurd q hin) (fun A' q => absurd q hin)
