/-! the plain law: worked. By hand (gen/262.plainy.src.txt) -/
theorem z_dc0 : FP.dconst0 = FP.f2d 0 := by decide +kernel
/-- the last step of worked, both sides -/
theorem p_wk {s : LSt} {i : Nat} {A : Led} (hA : RLd s i A) {p0 p3 : Int32} (hin : vp_in p0 12) (e0 : p0.toNatClampNeg = i) {v w : UInt64} (kv : zk (lK A) v) (bv : (zV v).natAbs ≤ 2 ^ 1174) (hw : zf w) (bw : (zV w).natAbs ≤ 2 ^ 1174) (kw : ¬ p3 = 0 → ¬ p3 = 1 → ¬ p3 = 2 → ¬ p3 = 3 → ¬ p3 = 4 → zk (lK A) w) (h38 : 0 ≤ p3.toInt ∧ p3.toInt ≤ 8) {KC : Int64 → Prop} {EC : String → Prop} (hK : ∀ x, (∀ K3 : Int64 → Int32 → Prop, K3 x 0 → wX3_worked_J105 s.isWide p0 p3 K3 v w 0) → KC x) (hE : (∀ K3 : Int64 → Int32 → Prop, K3 0 3 → wX3_worked_J105 s.isWide p0 p3 K3 v w 0) → EC "java/lang/ArithmeticException") : wX1_worked_J49 (lK A) p3 KC EC v w := by
  obtain ⟨z1, z2, z3⟩ := z_0
  have e8 : ¬ p3 = 0 → ¬ p3 = 1 → ¬ p3 = 2 → ¬ p3 = 3 → ¬ p3 = 4 → ¬ p3 = 5 → ¬ p3 = 6 → ¬ p3 = 7 → p3 = 8 := by
    intro c0 c1 c2 c3 c4 c5 c6 c7
    have t : ∀ n : Nat, n < 9 → p3.toInt = (n : Int) → p3 = Int32.ofNat n := fun n hn h => by
      rw [← Int32.toInt_inj, nI_int (by omega), h]
    have h := h38
    by_cases a0 : p3.toInt = 0
    · exact absurd (t 0 (by omega) a0) c0
    by_cases a1 : p3.toInt = 1
    · exact absurd (t 1 (by omega) a1) c1
    by_cases a2 : p3.toInt = 2
    · exact absurd (t 2 (by omega) a2) c2
    by_cases a3 : p3.toInt = 3
    · exact absurd (t 3 (by omega) a3) c3
    by_cases a4 : p3.toInt = 4
    · exact absurd (t 4 (by omega) a4) c4
    by_cases a5 : p3.toInt = 5
    · exact absurd (t 5 (by omega) a5) c5
    by_cases a6 : p3.toInt = 6
    · exact absurd (t 6 (by omega) a6) c6
    by_cases a7 : p3.toInt = 7
    · exact absurd (t 7 (by omega) a7) c7
    exact t 8 (by omega) (by omega)
  have go : (p3 = 8 → zV w ≠ 0) → wL_worked (lK A) v w p3 (fun r => wL_bits (lK A) r (fun x => KC x)) := by
    intro h0
    have h8 : ¬ p3 = 0 → ¬ p3 = 1 → ¬ p3 = 2 → ¬ p3 = 3 → ¬ p3 = 4 → ¬ p3 = 5 → ¬ p3 = 6 → ¬ p3 = 7 → zV w ≠ 0 := fun c0 c1 c2 c3 c4 c5 c6 c7 => h0 (e8 c0 c1 c2 c3 c4 c5 c6 c7)
    refine q_worked kv bv hw bw kw h8 (fun r r1 r2 r3 => ?_)
    have br : (zV r).natAbs ≤ 2 ^ 1201 := by
      rw [r3]
      exact Nat.le_trans (p_wr_le bv bw) (Nat.pow_le_pow_right (by decide) (by decide))
    refine q_bits r1 br (hK _ (fun K3 k3 => ?_))
    have m : vp_in p0 12 ∧ wX3_workedOf v w p3 (fun r => wX3_bitsOf (s.isWide p0.toNatClampNeg) r (fun x => K3 x 0)) := by
      refine ⟨hin, q3_workedOf (zk_f kv) bv hw h8 (fun r' s1 s2 s3 => ?_)⟩
      have : r' = r := z_eqa s1 r1 (s2.trans r2.symm) (s3.trans r3.symm)
      subst this
      exact q3_bitsOf (by rw [e0]; exact p_wide hA) r1 br k3
    exact ⟨fun _ => m, fun q => ⟨fun _ => m, fun d => absurd ((z_deq hw z1).mp d) (by rw [z2]; exact h0 q)⟩⟩
  refine ⟨fun c => go (fun q => absurd q c), fun c => ⟨fun d => go (fun _ => ?_), fun d => hE (fun K3 k3 => ⟨fun q => absurd c q, fun _ => ⟨fun q => absurd d q, fun _ => k3⟩⟩)⟩⟩
  rw [z_deq hw z1, z2] at d
  exact d
theorem p_wk3 {s : LSt} {p0 p1 p2 p3 : Int32} {K : Int64 → Int32 → Prop} (hp : 0 ≤ p3.toInt ∧ p3.toInt ≤ 8) (h : wX3_faultAt p0 p1 s.many (fun r_2 => ((¬ r_2 = (0 : Int32) → (wX3_worked_J59 s.isWide s.amountOf p0 p1 p2 p3 K r_2 r_2)) ∧ (r_2 = (0 : Int32) → ((p3 ≤ (4 : Int32) → (wX3_worked_J59 s.isWide s.amountOf p0 p1 p2 p3 K r_2 r_2)) ∧ (¬ p3 ≤ (4 : Int32) → (wX3_faultAt p0 p2 s.many (fun r_15 => (wX3_worked_J59 s.isWide s.amountOf p0 p1 p2 p3 K r_15 r_2))))))))) : wX3_worked p0 p1 p2 p3 s.thrown s.many s.isWide s.amountOf K := by
  refine p_in3 (fun a b => ⟨fun _ => h, fun q => absurd q (by decide)⟩) (fun q => ?_)
  have q : p3.toInt < 0 ∨ 8 < p3.toInt := q
  omega
theorem p_c9 {ta : Nat → ClassId} {L : Nat} {xf : Nat → Int32} (hL : L ≤ 320) (v4 : Int32) (s : LSt) (hs : RR s) (h1 : 0 ≤ v4.toInt) (h2 : v4.toInt + 5 ≤ (L : Int)) : wL_9 (LSt.thrown s) (LSt.many s) (LSt.isWide s) (LSt.amountOf s) (LSt.accountOf s) (LSt.dayOf s) (LSt.given s) (LSt.givenOf s) (LSt.runs s) (LSt.runWide s) (LSt.runWay s) (LSt.runTotal s) (LSt.runSteps s) (LSt.lefts s) (LSt.rights s) (LSt.results s) (LSt.wide s) (LSt.dn s) (LSt.stepsAt s) (LSt.keeps s) (LSt.order s) (LSt.att s) (LSt.spareAmount s) (LSt.spareAccount s) (LSt.spareDay s) (LSt.cured s) (LSt.cureOf s) (LSt.shareOf s) (LSt.big s) (LSt.unitsOf s) (LSt.spare s) (LSt.halfFrom s) (LSt.halfMany s) (LSt.halfDone s) (LSt.halfTotal s) (LSt.isFar s) (LSt.of s) (LSt.cur s) (LSt.cs s) ta v4 xf L (LSt.cs s) (lst RR) := by
  have v1 := p_v (j := 1) hL h1 h2 (by decide)
  have v2 := p_v (j := 2) hL h1 h2 (by decide)
  have v3 := p_v (j := 3) hL h1 h2 (by decide)
  have v5 := p_v (j := 4) hL h1 h2 (by decide)
  unfold wL_9
  refine ⟨v1, v2, v3, v5, ?_⟩
  generalize xf (v4 + 1).toNatClampNeg = p0
  generalize xf (v4 + 2).toNatClampNeg = p1
  generalize xf (v4 + 3).toNatClampNeg = p2
  generalize xf (v4 + 4).toNatClampNeg = p3
  have z4 : (4 : Int32).toInt = 4 := rfl
  have z5 : (5 : Int32).toInt = 5 := rfl
  have bad : ∀ (K : Int64 → Int32 → Prop), (p3.toInt < 0 ∨ 8 < p3.toInt) → K (-102) 0 → wX3_worked p0 p1 p2 p3 s.thrown s.many s.isWide s.amountOf K := by
    intro K hb hK
    refine p_in3 (fun a b => ?_) (fun _ => ⟨fun q => absurd rfl q, fun _ => hK⟩)
    have a : 0 ≤ p3.toInt := a
    have b : p3.toInt ≤ 8 := b
    omega
  unfold wX0_worked bX1_worked
  refine ⟨fun hin => ⟨fun A hc => ?_, fun hn => ?_⟩, fun hin => ?_⟩
  · obtain ⟨h12, e0⟩ := p_12 hin
    have hA := p_row hs h12 hc
    have hn := hA.1
    have nof : ∀ (q1 : Int32) (K : Int32 → Prop), vp_in q1 (lLn A) → K 0 → wX3_faultAt p0 q1 s.many K := fun q1 K hv hK => p_fault hs (fun _ _ _ _ => hK) (fun _ q => by rw [hc] at q; cases q) (fun q => absurd hin q) (fun A' hc' _ q => by rw [hc] at hc'; cases hc'; exact absurd hv q)
    have yef : ∀ (q1 : Int32) (K : Int32 → Prop), ¬ vp_in q1 (lLn A) → K 2 → wX3_faultAt p0 q1 s.many K := fun q1 K hv hK => p_fault hs (fun A' hc' _ q => by rw [hc] at hc'; cases hc'; exact absurd q hv) (fun _ q => by rw [hc] at q; cases q) (fun q => absurd hin q) (fun _ _ _ _ => hK)
    refine p_isIn (fun a b => ⟨fun _ => ⟨hin, p_cgs hs h12 hc, ?_⟩, fun q => absurd q (by decide)⟩) (fun a => ⟨fun q => absurd rfl q, fun _ => ⟨p_z1, fun f hf => ⟨v1, v2, v3, v5, bad _ a (p_okk rfl rfl p_z1 (p_upd0 hf) (Or.inl hs))⟩⟩⟩)
    have a : 0 ≤ p3.toInt := a
    have b : p3.toInt ≤ 8 := b
    refine p_atX hA (fun hv => ?_) (fun hv => Or.inr (Or.inl ⟨rfl, v1, v2, v3, v5, p_wk3 ⟨a, b⟩ (yef p1 _ hv ⟨fun _ => ⟨fun q => absurd q (by decide), fun _ => p_ern rfl (by decide) (Or.inl hs)⟩, fun q => absurd q (by decide)⟩)⟩))
    obtain ⟨c1, c2⟩ := p_ofn hv (by omega)
    have am := p_amt hA c1
    obtain ⟨i1, i2⟩ := p_idx hin hv hn
    refine ⟨fun d => ?_, fun d => ?_⟩
    · rw [Int32.le_iff_toInt_le, z5] at d
      have nd : ¬ p3 ≤ 4 := fun q => by rw [Int32.le_iff_toInt_le, z4] at q; omega
      refine p_atX hA (fun hw => ?_) (fun hw => Or.inr (Or.inl ⟨rfl, v1, v2, v3, v5, p_wk3 ⟨a, b⟩ (nof p1 _ hv ⟨fun q => absurd rfl q, fun _ => ⟨fun q => absurd q nd, fun _ => yef p2 _ hw ⟨fun q => absurd q (by decide), fun _ => p_ern rfl (by decide) (Or.inl hs)⟩⟩⟩)⟩))
      obtain ⟨g1, g2⟩ := p_ofn hw (by omega)
      have aw := p_amt hA g1
      obtain ⟨j1, j2⟩ := p_idx hin hw hn
      have lift : ∀ K : Int64 → Int32 → Prop, wX3_worked_J105 s.isWide p0 p3 K (s.amountOf (60 * p0.toNatClampNeg + p1.toNatClampNeg)) (s.amountOf (60 * p0.toNatClampNeg + p2.toNatClampNeg)) 0 → wX3_worked p0 p1 p2 p3 s.thrown s.many s.isWide s.amountOf K := fun K hK => p_wk3 ⟨a, b⟩ (nof p1 _ hv ⟨fun q => absurd rfl q, fun _ => ⟨fun q => absurd q nd, fun _ => nof p2 _ hw ⟨fun _ => ⟨i1, fun r5 h5 => ⟨fun q => absurd q nd, fun _ => ⟨j1, by rw [h5, i2, j2]; exact hK⟩⟩⟩, fun q => absurd rfl q⟩⟩⟩)
      refine p_wk hA hin rfl am.1 am.2 (zk_f aw.1) aw.2 (fun _ _ _ _ _ => aw.1) ⟨a, b⟩ (fun x hx => ⟨p_z1, fun f hf => ⟨v1, v2, v3, v5, lift _ (hx _ (p_okk rfl rfl p_z1 (p_upd0 hf) (Or.inl hs)))⟩⟩) (fun hx => Or.inr (Or.inr ⟨rfl, v1, v2, v3, v5, lift _ (hx _ (p_ern rfl (by decide) (Or.inl hs)))⟩))
    · rw [Int32.le_iff_toInt_le, z5] at d
      have yd : p3 ≤ 4 := by rw [Int32.le_iff_toInt_le, z4]; omega
      obtain ⟨z1, z2, z3⟩ := z_0
      have lift : ∀ K : Int64 → Int32 → Prop, wX3_worked_J105 s.isWide p0 p3 K (s.amountOf (60 * p0.toNatClampNeg + p1.toNatClampNeg)) FP.dconst0 0 → wX3_worked p0 p1 p2 p3 s.thrown s.many s.isWide s.amountOf K := fun K hK => p_wk3 ⟨a, b⟩ (nof p1 _ hv ⟨fun q => absurd rfl q, fun _ => ⟨fun _ => ⟨fun _ => ⟨i1, fun r5 h5 => ⟨fun _ => by rw [h5, i2]; exact hK, fun q => absurd yd q⟩⟩, fun q => absurd rfl q⟩, fun q => absurd yd q⟩⟩)
      have e4 : ¬ p3 = 0 → ¬ p3 = 1 → ¬ p3 = 2 → ¬ p3 = 3 → ¬ p3 = 4 → zk (lK A) FP.dconst0 := by
        intro _ _ _ _ _
        cases lK A
        · exact ⟨0, by unfold ff; decide +kernel, z_dc0⟩
        · exact z1
      refine p_wk hA hin rfl am.1 am.2 z1 (by rw [z2]; exact Nat.zero_le _) e4 ⟨a, b⟩ (fun x hx => ⟨p_z1, fun f hf => ⟨v1, v2, v3, v5, lift _ (hx _ (p_okk rfl rfl p_z1 (p_upd0 hf) (Or.inl hs)))⟩⟩) (fun hx => Or.inr (Or.inr ⟨rfl, v1, v2, v3, v5, lift _ (hx _ (p_ern rfl (by decide) (Or.inl hs)))⟩))
  · obtain ⟨h12, e0⟩ := p_12 hin
    refine p_isIn (fun a b => ⟨fun _ => ⟨fun q => absurd hin q, fun _ => ⟨p_cgn hs h12 hn, ?_⟩⟩, fun q => absurd q (by decide)⟩) (fun a => ⟨fun q => absurd rfl q, fun _ => ⟨p_z1, fun f hf => ⟨v1, v2, v3, v5, bad _ a (p_okk rfl rfl p_z1 (p_upd0 hf) (Or.inl hs))⟩⟩⟩)
    refine Or.inl ⟨rfl, v1, v2, v3, v5, p_wk3 ⟨a, b⟩ (p_fault hs (fun _ q _ _ => by rw [hn] at q; cases q) (fun _ _ => ⟨fun _ => ⟨fun q => absurd q (by decide), fun _ => p_ern rfl (by decide) (Or.inl hs)⟩, fun q => absurd q (by decide)⟩) (fun q => absurd hin q) (fun _ q _ _ => by rw [hn] at q; cases q))⟩
  · refine p_isIn (fun a b => ⟨fun _ => ⟨fun _ => ?_, fun q => absurd q hin⟩, fun q => absurd q (by decide)⟩) (fun a => ⟨fun q => absurd rfl q, fun _ => ⟨p_z1, fun f hf => ⟨v1, v2, v3, v5, bad _ a (p_okk rfl rfl p_z1 (p_upd0 hf) (Or.inl hs))⟩⟩⟩)
    exact Or.inr (Or.inl ⟨rfl, v1, v2, v3, v5, p_wk3 ⟨a, b⟩ (p_fault hs (fun _ _ q _ => absurd q hin) (fun q _ => absurd q hin) (fun _ => ⟨fun _ => ⟨fun q => absurd q (by decide), fun _ => p_ern rfl (by decide) (Or.inl hs)⟩, fun q => absurd q (by decide)⟩) (fun _ _ q _ => absurd q hin))⟩)
