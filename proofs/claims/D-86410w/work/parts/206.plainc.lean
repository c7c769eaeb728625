/-! the plain law: share. By hand (gen/206.plainc.src.txt) -/
theorem p_c31 {ta : Nat → ClassId} {L : Nat} {xf : Nat → Int32} (hL : L ≤ 320) (v4 : Int32) (s : LSt) (hs : RR s) (h1 : 0 ≤ v4.toInt) (h2 : v4.toInt + 5 ≤ (L : Int)) : wL_31 (LSt.thrown s) (LSt.many s) (LSt.isWide s) (LSt.amountOf s) (LSt.accountOf s) (LSt.dayOf s) (LSt.given s) (LSt.givenOf s) (LSt.runs s) (LSt.runWide s) (LSt.runWay s) (LSt.runTotal s) (LSt.runSteps s) (LSt.lefts s) (LSt.rights s) (LSt.results s) (LSt.wide s) (LSt.dn s) (LSt.stepsAt s) (LSt.keeps s) (LSt.order s) (LSt.att s) (LSt.spareAmount s) (LSt.spareAccount s) (LSt.spareDay s) (LSt.cured s) (LSt.cureOf s) (LSt.shareOf s) (LSt.big s) (LSt.unitsOf s) (LSt.spare s) (LSt.halfFrom s) (LSt.halfMany s) (LSt.halfDone s) (LSt.halfTotal s) (LSt.isFar s) (LSt.of s) (LSt.cur s) (LSt.cs s) ta v4 xf L (LSt.cs s) (lst RR) := by
  obtain ⟨hA, hG, ⟨hr, hlen, hlz, hls⟩, hT, hC, hS⟩ := id hs
  unfold wL_31
  refine ⟨p_v hL h1 h2 (by decide), ?_⟩
  have hv := p_v (j := 1) hL h1 h2 (by decide)
  generalize xf (v4 + 1).toNatClampNeg = r
  unfold bX1_share wX1_share
  refine p_isIn (fun a b => ⟨fun h => absurd h (by decide), fun _ => ?_⟩) (fun a => ⟨fun _ => ⟨hv, ?_⟩, fun h => absurd rfl h⟩)
  · have a : 0 ≤ r.toInt := a
    have b : r.toInt ≤ 9 := b
    have e : r.toNatClampNeg = r.toInt.toNat := rfl
    refine ⟨vp_in_iff.mpr ⟨a, by omega⟩, hv, ?_⟩
    unfold wX3_share
    refine p_in3 (fun _ _ => ⟨fun h => absurd h (by decide), fun _ => ⟨vp_in_iff.mpr ⟨a, by omega⟩, ⟨fun _ => Or.inl hs, fun h => h (hS.1 _ (by omega))⟩⟩⟩) (fun h => ?_)
    have h : r.toInt < 0 ∨ 9 < r.toInt := h
    omega
  · unfold wX3_share
    refine p_in3 (fun a1 b1 => ?_) (fun _ => ⟨fun _ => ⟨fun _ => Or.inl hs, fun h => h rfl⟩, fun h => absurd rfl h⟩)
    omega
