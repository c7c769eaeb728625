/-! the plain law: entry; faults and places. By hand (gen/208.plaind.src.txt) -/
theorem p_idx {p0 p1 : Int32} {n : Nat} (h0 : vp_in p0 12) (h1 : vp_in p1 n) (hn : n ≤ 60) : vp_in ((60 : Int32) * p0 + p1) 720 ∧ ((60 : Int32) * p0 + p1).toNatClampNeg = 60 * p0.toNatClampNeg + p1.toNatClampNeg := by
  obtain ⟨a1, a2⟩ := vp_in_iff.mp h0
  obtain ⟨b1, b2⟩ := vp_in_iff.mp h1
  have e1 : ((60 : Int32) * p0).toInt = 60 * p0.toInt := by
    rw [Int32.toInt_mul, show (60 : Int32).toInt = 60 from rfl]
    exact Int.bmod_eq_of_le (by omega) (by omega)
  have e2 : ((60 : Int32) * p0 + p1).toInt = 60 * p0.toInt + p1.toInt := by
    rw [Int32.toInt_add, e1]
    exact Int.bmod_eq_of_le (by omega) (by omega)
  refine ⟨vp_in_iff.mpr (by rw [e2]; omega), ?_⟩
  show ((60 : Int32) * p0 + p1).toInt.toNat = 60 * p0.toInt.toNat + p1.toInt.toNat
  rw [e2]
  omega
theorem p_fault {s : LSt} (hs : RR s) {p0 p1 : Int32} {K : Int32 → Prop} (k0 : ∀ L, cS s.cs p0.toNatClampNeg = some L → vp_in p0 12 → vp_in p1 (lLn L) → K 0) (k1 : vp_in p0 12 → cS s.cs p0.toNatClampNeg = none → K 1) (k2 : ¬ vp_in p0 12 → K 2) (k3 : ∀ L, cS s.cs p0.toNatClampNeg = some L → vp_in p0 12 → ¬ vp_in p1 (lLn L) → K 2) : wX3_faultAt p0 p1 s.many K := by
  have hA := hs.1
  unfold wX3_faultAt wX3_faultOf
  refine p_in3 (fun a b => ⟨fun _ => ?_, fun h => absurd h (by decide)⟩) (fun h => ⟨fun h => absurd rfl h, fun _ => ⟨fun h => absurd h (by decide), fun _ => k2 ?_⟩⟩)
  · have a : 0 ≤ p0.toInt := a
    have b : p0.toInt ≤ 11 := b
    have hv : vp_in p0 12 := vp_in_iff.mpr ⟨a, by omega⟩
    have hi := hA p0.toNatClampNeg (by show p0.toInt.toNat < 12; omega)
    refine ⟨hv, ?_⟩
    cases hc : cS s.cs p0.toNatClampNeg with
    | none =>
      rw [hc] at hi
      have hi : s.many p0.toNatClampNeg = -1 := hi
      rw [hi]
      exact ⟨fun h => absurd h (by decide), fun _ => ⟨fun h => absurd h (by decide), fun _ => k1 hv hc⟩⟩
    | some A =>
      rw [hc] at hi
      have hi : RLd s p0.toNatClampNeg A := hi
      obtain ⟨l1, l2, -⟩ := hi
      rw [l2]
      have hp : (0 : Int32) ≤ Int32.ofNat (lLn A) := by rw [Int32.le_iff_toInt_le, il_ofNat (by omega), Int32.toInt_zero]; omega
      refine ⟨fun _ => ⟨fun _ => ⟨hv, ?_⟩, fun h => absurd rfl h⟩, fun h => absurd hp h⟩
      refine p_in3 (fun c d => ⟨fun h => absurd h (by decide), fun _ => k0 A hc hv ?_⟩) (fun h => ⟨fun _ => k3 A hc hv ?_, fun h => absurd rfl h⟩)
      · rw [p_pred (by omega)] at d
        have c : 0 ≤ p1.toInt := c
        exact vp_in_iff.mpr ⟨c, by omega⟩
      · rw [p_pred (by omega), show (0 : Int64).toInt = 0 from rfl] at h
        intro q
        have := vp_in_iff.mp q
        omega
  · intro q
    have := vp_in_iff.mp q
    have h : p0.toInt < 0 ∨ 11 < p0.toInt := h
    omega
theorem p_c4 {ta : Nat → ClassId} {L : Nat} {xf : Nat → Int32} (hL : L ≤ 320) (v4 : Int32) (s : LSt) (hs : RR s) (h1 : 0 ≤ v4.toInt) (h2 : v4.toInt + 5 ≤ (L : Int)) : wL_4 (LSt.thrown s) (LSt.many s) (LSt.isWide s) (LSt.amountOf s) (LSt.accountOf s) (LSt.dayOf s) (LSt.given s) (LSt.givenOf s) (LSt.runs s) (LSt.runWide s) (LSt.runWay s) (LSt.runTotal s) (LSt.runSteps s) (LSt.lefts s) (LSt.rights s) (LSt.results s) (LSt.wide s) (LSt.dn s) (LSt.stepsAt s) (LSt.keeps s) (LSt.order s) (LSt.att s) (LSt.spareAmount s) (LSt.spareAccount s) (LSt.spareDay s) (LSt.cured s) (LSt.cureOf s) (LSt.shareOf s) (LSt.big s) (LSt.unitsOf s) (LSt.spare s) (LSt.halfFrom s) (LSt.halfMany s) (LSt.halfDone s) (LSt.halfTotal s) (LSt.isFar s) (LSt.of s) (LSt.cur s) (LSt.cs s) ta v4 xf L (LSt.cs s) (lst RR) := by
  obtain ⟨hA, hG, ⟨hr, hlen, hlz, hls⟩, hT, hC, hS⟩ := id hs
  have v1 := p_v (j := 1) hL h1 h2 (by decide)
  have v2 := p_v (j := 2) hL h1 h2 (by decide)
  have v3 := p_v (j := 3) hL h1 h2 (by decide)
  unfold wL_4
  refine ⟨v1, v2, v3, ?_⟩
  generalize xf (v4 + 1).toNatClampNeg = p0
  generalize xf (v4 + 2).toNatClampNeg = p1
  generalize xf (v4 + 3).toNatClampNeg = p2
  have hz : vp_in (0 : Int32) 1 := vp_in_iff.mpr (by decide)
  unfold wX0_entry bX1_entry
  refine ⟨fun hin => ⟨fun A hc => ?_, fun hn => ?_⟩, fun hin => ?_⟩
  · have hi := hA p0.toNatClampNeg (by have := vp_in_iff.mp hin; show p0.toInt.toNat < 12; omega)
    rw [hc] at hi
    have hi : RLd s p0.toNatClampNeg A := hi
    obtain ⟨l1, l2, l3, l4, l5, l6, l7⟩ := hi
    have hg := hG p0.toNatClampNeg (by have := vp_in_iff.mp hin; show p0.toInt.toNat < 12; omega)
    rw [hc] at hg
    unfold wX1_entry
    refine ⟨hin, hg, by omega, fun ho => ?_, fun ho => ?_⟩
    · refine Or.inr ⟨rfl, v1, v2, v3, ?_⟩
      unfold wX3_entry
      exact p_fault hs (fun A' hc' _ q => by rw [hc] at hc'; cases hc'; exact absurd q ho) (fun _ q => by rw [hc] at q; cases q) (fun q => absurd hin q) (fun _ _ _ _ => ⟨fun h => absurd h (by decide), fun _ => ⟨fun _ => ⟨fun _ => Or.inl hs, fun h => absurd h (by decide)⟩, fun h => absurd rfl h⟩⟩)
    · obtain ⟨i1, i2⟩ := p_idx hin ho l1
      have o1 : p1.toNatClampNeg < lLn A := by have := vp_in_iff.mp ho; show p1.toInt.toNat < lLn A; omega
      have e5 := (l5 _ o1).1
      have e6 := (l6 _ o1).1
      rw [← i2] at e5 e6
      have key : ∀ (x y : Int32), x = y → (∀ y_6 : Int64, y_6 = x.toInt64 → vp_in (0 : Int32) 1 ∧ ∀ f_7 : Nat → Int64, f_7 = vp_updL s.of (0 : Int32).toNatClampNeg y_6 → f_7 (0 : Int32).toNatClampNeg = y.toInt64) := by
        intro x y e y6 e6 
        exact ⟨hz, fun f e7 => by rw [e7, e6, e]; rfl⟩
      refine ⟨fun hp => ⟨fun hq => ?_, fun hq => ?_⟩, fun hp => ?_⟩
      · intro y6 q6
        refine ⟨hz, fun f q7 => ⟨v1, v2, v3, ?_⟩⟩
        unfold wX3_entry
        exact p_fault hs (fun _ _ _ _ => ⟨fun _ => ⟨fun _ => ⟨fun _ => ⟨fun _ => ⟨fun h => absurd rfl h, fun _ => ⟨hz, fun _ => Or.inl hs, fun h => h ((key _ _ rfl y6 q6).2 f q7)⟩⟩, fun h => absurd rfl h⟩, fun h => absurd h hq⟩, fun h => absurd h hp⟩, fun h => absurd rfl h⟩) (fun _ q => by rw [hc] at q; cases q) (fun q => absurd hin q) (fun A' hc' _ q => by rw [hc] at hc'; cases hc'; exact absurd ho q)
      · refine ⟨by omega, fun h => absurd ho h, fun _ y6 q6 => ⟨hz, fun f q7 => ⟨v1, v2, v3, ?_⟩⟩⟩
        unfold wX3_entry
        exact p_fault hs (fun _ _ _ _ => ⟨fun _ => ⟨fun _ => ⟨fun h => absurd hq h, fun _ => ⟨i1, ⟨fun _ => ⟨fun h => absurd rfl h, fun _ => ⟨hz, fun _ => Or.inl hs, fun h => h ((key _ _ e6 y6 q6).2 f q7)⟩⟩, fun h => absurd rfl h⟩⟩⟩, fun h => absurd h hp⟩, fun h => absurd rfl h⟩) (fun _ q => by rw [hc] at q; cases q) (fun q => absurd hin q) (fun A' hc' _ q => by rw [hc] at hc'; cases hc'; exact absurd ho q)
      · intro y6 q6
        refine ⟨hz, fun f q7 => ⟨v1, v2, v3, ?_⟩⟩
        unfold wX3_entry
        exact p_fault hs (fun _ _ _ _ => ⟨fun _ => ⟨fun h => absurd hp h, fun _ => ⟨i1, ⟨fun _ => ⟨fun h => absurd rfl h, fun _ => ⟨hz, fun _ => Or.inl hs, fun h => h ((key _ _ e5 y6 q6).2 f q7)⟩⟩, fun h => absurd rfl h⟩⟩⟩, fun h => absurd rfl h⟩) (fun _ q => by rw [hc] at q; cases q) (fun q => absurd hin q) (fun A' hc' _ q => by rw [hc] at hc'; cases hc'; exact absurd ho q)
  · have hg := hG p0.toNatClampNeg (by have := vp_in_iff.mp hin; show p0.toInt.toNat < 12; omega)
    rw [hn] at hg
    unfold wX1_entry_F
    refine ⟨fun h => absurd hin h, fun _ => ⟨hg, Or.inl ⟨rfl, v1, v2, v3, ?_⟩⟩⟩
    unfold wX3_entry
    exact p_fault hs (fun _ q _ _ => by rw [hn] at q; cases q) (fun _ _ => ⟨fun h => absurd h (by decide), fun _ => ⟨fun _ => ⟨fun _ => Or.inl hs, fun h => absurd h (by decide)⟩, fun h => absurd rfl h⟩⟩) (fun q => absurd hin q) (fun _ q _ _ => by rw [hn] at q; cases q)
  · unfold wX1_entry_F
    refine ⟨fun _ => Or.inr ⟨rfl, v1, v2, v3, ?_⟩, fun h => absurd h hin⟩
    unfold wX3_entry
    exact p_fault hs (fun _ _ q _ => absurd q hin) (fun q _ => absurd q hin) (fun _ => ⟨fun h => absurd h (by decide), fun _ => ⟨fun _ => ⟨fun _ => Or.inl hs, fun h => absurd h (by decide)⟩, fun h => absurd rfl h⟩⟩) (fun _ _ q _ => absurd q hin)
