/-! the plain law: the runs' plain questions (steps, total, clear). By hand (gen/202.plainruns.src.txt) -/
theorem p_v {v4 j : Int32} {L : Nat} (hL : L ≤ 320) (h1 : 0 ≤ v4.toInt) (h2 : v4.toInt + 5 ≤ (L : Int)) (hj : 0 ≤ j.toInt ∧ j.toInt < 5) : vp_in (v4 + j) L := by
  have e : (v4 + j).toInt = v4.toInt + j.toInt := by
    rw [Int32.toInt_add]
    exact Int.bmod_eq_of_le (by omega) (by omega)
  exact vp_in_iff.mpr (by rw [e]; omega)
theorem p_in3 {x : Int32} {lo hi : Int64} {K : Int32 → Prop} (h1 : lo.toInt ≤ x.toInt → x.toInt ≤ hi.toInt → K 1) (h0 : (x.toInt < lo.toInt ∨ hi.toInt < x.toInt) → K 0) : wX3_in x.toInt64 lo hi K := by
  refine ⟨fun h => h0 (Or.inl ?_), fun h => ⟨fun g => h0 (Or.inr ?_), fun g => h1 ?_ ?_⟩⟩
  · rwa [Int64.lt_iff_toInt_lt, Int32.toInt_toInt64] at h
  · rwa [Int64.lt_iff_toInt_lt, Int32.toInt_toInt64] at g
  · rw [Int64.lt_iff_toInt_lt, Int32.toInt_toInt64] at h; omega
  · rw [Int64.lt_iff_toInt_lt, Int32.toInt_toInt64] at g; omega
theorem p_isIn {x : Int32} {lo hi : Int64} {K : Int32 → Prop} (h1 : lo.toInt ≤ x.toInt → x.toInt ≤ hi.toInt → K 1) (h0 : (x.toInt < lo.toInt ∨ hi.toInt < x.toInt) → K 0) : wX1_isIn x.toInt64 lo hi K := p_in3 h1 h0
theorem p_pred {n : Nat} (h : n ≤ 720) : (Int32.ofNat n - 1).toInt64.toInt = (n : Int) - 1 := by
  rw [Int32.toInt_toInt64, Int32.toInt_sub, il_ofNat (by omega), show (1 : Int32).toInt = 1 from rfl]
  exact Int.bmod_eq_of_le (by omega) (by omega)
/-- whether there's such a run: the model's -/
theorem p_noRun {r z : Int32} {n : Nat} {K : Int32 → Prop} (e : z = Int32.ofNat n) (hn : n ≤ 60) (h0 : 0 ≤ r.toInt → r.toInt < n → K 0) (h1 : ¬ (0 ≤ r.toInt ∧ r.toInt < n) → K 1) : wX3_noRun r z K := by
  subst e
  unfold wX3_noRun
  refine p_in3 (fun a b => ⟨fun _ => h0 a ?_, fun h => absurd h (by decide)⟩) (fun a => ⟨fun h => absurd rfl h, fun _ => h1 ?_⟩)
  · rw [p_pred (by omega)] at b; omega
  · rw [p_pred (by omega), show (0 : Int64).toInt = 0 from rfl] at a; omega
/-- whether there's such a run: the component's -/
theorem p_isRun {r z : Int32} {n : Nat} {K : Int32 → Prop} (e : z = Int32.ofNat n) (hn : n ≤ 60) (h0 : 0 ≤ r.toInt → r.toInt < n → K 1) (h1 : ¬ (0 ≤ r.toInt ∧ r.toInt < n) → K 0) : wX1_isRun r z K := by
  subst e
  unfold wX1_isRun wJ2_size
  refine p_isIn (fun a b => ⟨Or.inr rfl, h0 a ?_⟩) (fun a => ⟨Or.inl rfl, h1 ?_⟩)
  · rw [p_pred (by omega)] at b; omega
  · rw [p_pred (by omega), show (0 : Int64).toInt = 0 from rfl] at a; omega
/-- a run of the list -/
theorem p_get {r z : Int32} {n cap : Nat} {f : Nat → Option Nat} {K : Option Nat → Prop} (e0 : z = Int32.ofNat n) (hn : n ≤ 60) (hc : n ≤ cap) (h0 : 0 ≤ r.toInt) (h1 : r.toInt < n) (k : K (f r.toNatClampNeg)) : wJ2_get r z cap f K := by
  subst e0
  have e : ¬ r < 0 := by rw [Int32.lt_iff_toInt_lt, Int32.toInt_zero]; omega
  have e2 : r < Int32.ofNat n := by rw [Int32.lt_iff_toInt_lt, il_ofNat (by omega)]; exact h1
  exact ⟨fun h => absurd h e, fun _ => ⟨fun _ => ⟨vp_in_iff.mpr ⟨h0, by omega⟩, k⟩, fun h => absurd e2 h⟩⟩
theorem p_c15 {ta : Nat → ClassId} {L : Nat} {xf : Nat → Int32} (hL : L ≤ 320) (v4 : Int32) (s : LSt) (hs : RR s) (h1 : 0 ≤ v4.toInt) (h2 : v4.toInt + 5 ≤ (L : Int)) : wL_15 (LSt.thrown s) (LSt.many s) (LSt.isWide s) (LSt.amountOf s) (LSt.accountOf s) (LSt.dayOf s) (LSt.given s) (LSt.givenOf s) (LSt.runs s) (LSt.runWide s) (LSt.runWay s) (LSt.runTotal s) (LSt.runSteps s) (LSt.lefts s) (LSt.rights s) (LSt.results s) (LSt.wide s) (LSt.dn s) (LSt.stepsAt s) (LSt.keeps s) (LSt.order s) (LSt.att s) (LSt.spareAmount s) (LSt.spareAccount s) (LSt.spareDay s) (LSt.cured s) (LSt.cureOf s) (LSt.shareOf s) (LSt.big s) (LSt.unitsOf s) (LSt.spare s) (LSt.halfFrom s) (LSt.halfMany s) (LSt.halfDone s) (LSt.halfTotal s) (LSt.isFar s) (LSt.of s) (LSt.cur s) (LSt.cs s) ta v4 xf L (LSt.cs s) (lst RR) := by
  obtain ⟨hA, hG, ⟨hr, hlen, hlz, hls⟩, hT, hC, hS⟩ := id hs
  unfold wL_15
  refine ⟨p_v hL h1 h2 (by decide), ?_⟩
  generalize xf (v4 + 1).toNatClampNeg = r
  have hv := p_v (j := 1) hL h1 h2 (by decide)
  unfold bX1_steps
  refine ⟨fun hin => ⟨fun x hx => ⟨fun t ht => ?_, fun hn => ?_⟩, fun hn => ?_⟩, fun hin => ?_⟩
  · obtain ⟨i1, i2⟩ := vp_in_iff.mp hin
    rw [hx] at hls
    obtain ⟨c1, c2, c3⟩ := hls
    have h4 := hT _ _ ht
    unfold wX1_steps
    refine p_isRun hlz hlen (fun _ _ => ⟨fun h => absurd h (by decide), fun _ => p_get hlz hlen c1 i1 i2 ⟨c3 _ _ ht, hv, ?_⟩⟩) (fun h => absurd ⟨i1, i2⟩ h)
    unfold wX3_steps
    refine p_noRun (hr.trans hlz) hlen (fun _ _ => ⟨fun _ => ⟨vp_in_iff.mpr ⟨i1, by omega⟩, ⟨fun _ => Or.inl hs, fun h => h h4.2.2.2.1⟩⟩, fun h => absurd rfl h⟩) (fun h => absurd ⟨i1, i2⟩ h)
  · obtain ⟨i1, i2⟩ := vp_in_iff.mp hin
    rw [List.getElem?_eq_none_iff] at hn
    have : r.toNatClampNeg = r.toInt.toNat := rfl
    omega
  · obtain ⟨i1, i2⟩ := vp_in_iff.mp hin
    rw [hn] at hls
    rw [hls] at i2
    simp at i2
    omega
  · have hin2 : ¬ (0 ≤ r.toInt ∧ r.toInt < (cT (LSt.cs s)).length) := fun h => hin (vp_in_iff.mpr h)
    unfold wX1_steps_N
    refine p_isRun hlz hlen (fun a b => absurd ⟨a, b⟩ hin2) (fun _ => ⟨fun _ => ⟨hv, ?_⟩, fun h => absurd rfl h⟩)
    unfold wX3_steps
    exact p_noRun (hr.trans hlz) hlen (fun a b => absurd ⟨a, b⟩ hin2) (fun _ => ⟨fun h => absurd h (by decide), fun _ => ⟨fun _ => Or.inl hs, fun h => h rfl⟩⟩)
