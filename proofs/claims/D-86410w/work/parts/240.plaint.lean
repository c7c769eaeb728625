/-! the plain law: units, same. By hand (gen/240.plaint.src.txt) -/
theorem p_c11 {ta : Nat → ClassId} {L : Nat} {xf : Nat → Int32} (hL : L ≤ 320) (v4 : Int32) (s : LSt) (hs : RR s) (h1 : 0 ≤ v4.toInt) (h2 : v4.toInt + 5 ≤ (L : Int)) : wL_11 (LSt.thrown s) (LSt.many s) (LSt.isWide s) (LSt.amountOf s) (LSt.accountOf s) (LSt.dayOf s) (LSt.given s) (LSt.givenOf s) (LSt.runs s) (LSt.runWide s) (LSt.runWay s) (LSt.runTotal s) (LSt.runSteps s) (LSt.lefts s) (LSt.rights s) (LSt.results s) (LSt.wide s) (LSt.dn s) (LSt.stepsAt s) (LSt.keeps s) (LSt.order s) (LSt.att s) (LSt.spareAmount s) (LSt.spareAccount s) (LSt.spareDay s) (LSt.cured s) (LSt.cureOf s) (LSt.shareOf s) (LSt.big s) (LSt.unitsOf s) (LSt.spare s) (LSt.halfFrom s) (LSt.halfMany s) (LSt.halfDone s) (LSt.halfTotal s) (LSt.isFar s) (LSt.of s) (LSt.cur s) (LSt.cs s) ta v4 xf L (LSt.cs s) (lst RR) := by
  have v1 := p_v (j := 1) hL h1 h2 (by decide)
  have v2 := p_v (j := 2) hL h1 h2 (by decide)
  have v3 := p_v (j := 3) hL h1 h2 (by decide)
  unfold wL_11
  refine ⟨v1, v2, v3, ?_⟩
  generalize xf (v4 + 1).toNatClampNeg = p0
  generalize xf (v4 + 2).toNatClampNeg = p1
  generalize xf (v4 + 3).toNatClampNeg = p2
  unfold wX0_units bX1_units
  have bad : (p2.toInt < (0 : Int64).toInt ∨ (6 : Int64).toInt < p2.toInt) → ∀ K : Int64 → Int32 → Int64 → Prop, K (-102) 0 s.unitsOf → wX3_units p0 p1 p2 s.thrown s.many s.amountOf s.unitsOf K := by
    intro hp K hK
    exact p_in3 (fun _ _ => by omega) (fun _ => ⟨fun h => absurd rfl h, fun _ => hK⟩)
  refine ⟨fun hin => ⟨fun A hc => ?_, fun hn => ?_⟩, fun hin => ?_⟩
  · obtain ⟨h12, e0⟩ := p_12 hin
    have hA := p_row hs h12 hc
    have hn := hA.1
    refine p_isIn (fun a b => ⟨fun _ => ⟨hin, p_cgs hs h12 hc, p_atX hA (fun hv => ?_) (fun hv => Or.inr ⟨rfl, v1, v2, v3, ?_⟩)⟩, fun h => absurd h (by decide)⟩) (fun a => ⟨fun h => absurd rfl h, fun _ => ⟨p_z1, fun f hf => ⟨v1, v2, v3, bad a _ (p_okk rfl rfl p_z1 (p_upd0 hf) (Or.inl hs))⟩⟩⟩)
    · obtain ⟨c1, c2⟩ := p_ofn hv (by omega)
      obtain ⟨d1, d2, d3⟩ := p_39 a b rfl (n := 7) (by decide) (by decide)
      have am := p_amt hA c1
      have ab : (zV (s.amountOf (60 * p0.toNatClampNeg + p1.toNatClampNeg))).natAbs ≤ 2 ^ 1192 := Nat.le_trans am.2 (Nat.pow_le_pow_right (by decide) (by decide))
      obtain ⟨i1, i2⟩ := p_idx hin hv hn
      have m3 : ∀ K : Int64 → Int32 → Int64 → Prop, (p_un (s.amountOf (60 * p0.toNatClampNeg + p1.toNatClampNeg)) p2.toNatClampNeg ≤ 1000000000000000 → ∀ r : Int64, r.toInt = p_uv (s.amountOf (60 * p0.toNatClampNeg + p1.toNatClampNeg)) p2.toNatClampNeg → K r 0 r) → (1000000000000000 < p_un (s.amountOf (60 * p0.toNatClampNeg + p1.toNatClampNeg)) p2.toNatClampNeg → K (-105) 0 0) → wX3_units p0 p1 p2 s.thrown s.many s.amountOf s.unitsOf K := by
        intro K k1 k0
        refine p_in3 (fun _ _ => ⟨fun _ => ?_, fun h => absurd h (by decide)⟩) (fun h => by omega)
        refine p_fault hs (fun _ _ _ _ => ⟨fun _ => ⟨i1, ?_⟩, fun h => absurd rfl h⟩) (fun _ q => by rw [hc] at q; cases q) (fun q => absurd hin q) (fun A' hc' _ q => by rw [hc] at hc'; cases hc'; exact absurd hv q)
        rw [i2, d2]
        exact q3_units (by omega) (zk_f am.1) ab (fun q r hr => ⟨fun e => absurd e (by decide), fun _ => k1 q r hr⟩) (fun q => ⟨fun _ => k0 q, fun e => absurd rfl e⟩)
      by_cases hun : p_un (s.amountOf (60 * p0.toNatClampNeg + p1.toNatClampNeg)) p2.toNatClampNeg ≤ 1000000000000000
      · refine Or.inr ?_
        have key := fun K hK => q_unitsN (w := cW1 s.cs) (K := K) (show p2.toNatClampNeg ≤ 6 by omega) (zk_f am.1) ab hun hK
        rw [← d2] at key
        refine key _ (fun r w' hr => ⟨p_z1, fun f hf => ⟨v1, v2, v3, m3 _ (fun _ r' hr' => ?_) (fun q => by omega)⟩⟩)
        have e : r' = r := by rw [← Int64.toInt_inj, hr, hr']
        exact p_okk rfl rfl p_z1 (by rw [p_upd0 hf, e]) (Or.inl hs)
      · refine Or.inl ?_
        have key := fun E hE => q_unitsX (w := cW1 s.cs) (E := E) (show p2.toNatClampNeg ≤ 6 by omega) (zk_f am.1) ab (by omega) hE
        rw [← d2] at key
        exact key _ (fun w' => ⟨rfl, p_z1, fun f hf => ⟨v1, v2, v3, m3 _ (fun q => absurd q hun) (fun _ => p_okk rfl rfl p_z1 (p_upd0 hf) (Or.inl hs))⟩⟩)
    · refine p_in3 (fun _ _ => ⟨fun _ => ?_, fun h => absurd h (by decide)⟩) (fun h => by omega)
      exact p_fault hs (fun A' hc' _ q => by rw [hc] at hc'; cases hc'; exact absurd q hv) (fun _ q => by rw [hc] at q; cases q) (fun q => absurd hin q) (fun _ _ _ _ => ⟨fun h => absurd h (by decide), fun _ => p_ern rfl (by decide) (Or.inl hs)⟩)
  · obtain ⟨h12, e0⟩ := p_12 hin
    refine p_isIn (fun a b => ⟨fun _ => ⟨fun h => absurd hin h, fun _ => ⟨p_cgn hs h12 hn, Or.inl ⟨rfl, v1, v2, v3, ?_⟩⟩⟩, fun h => absurd h (by decide)⟩) (fun a => ⟨fun h => absurd rfl h, fun _ => ⟨p_z1, fun f hf => ⟨v1, v2, v3, bad a _ (p_okk rfl rfl p_z1 (p_upd0 hf) (Or.inl hs))⟩⟩⟩)
    refine p_in3 (fun _ _ => ⟨fun _ => ?_, fun h => absurd h (by decide)⟩) (fun h => by omega)
    exact p_fault hs (fun _ q _ _ => by rw [hn] at q; cases q) (fun _ _ => ⟨fun h => absurd h (by decide), fun _ => p_ern rfl (by decide) (Or.inl hs)⟩) (fun q => absurd hin q) (fun _ q _ _ => by rw [hn] at q; cases q)
  · refine p_isIn (fun a b => ⟨fun _ => ⟨fun _ => Or.inr ⟨rfl, v1, v2, v3, ?_⟩, fun h => absurd h hin⟩, fun h => absurd h (by decide)⟩) (fun a => ⟨fun h => absurd rfl h, fun _ => ⟨p_z1, fun f hf => ⟨v1, v2, v3, bad a _ (p_okk rfl rfl p_z1 (p_upd0 hf) (Or.inl hs))⟩⟩⟩)
    refine p_in3 (fun _ _ => ⟨fun _ => ?_, fun h => absurd h (by decide)⟩) (fun h => by omega)
    exact p_fault hs (fun _ _ q _ => absurd q hin) (fun q _ => absurd q hin) (fun _ => ⟨fun h => absurd h (by decide), fun _ => p_ern rfl (by decide) (Or.inl hs)⟩) (fun _ _ q _ => absurd q hin)
/-! same -/
def p_eqr (s : LSt) (i j k : Nat) : Prop := s.amountOf (60 * i + k) = s.amountOf (60 * j + k) ∧ s.accountOf (60 * i + k) = s.accountOf (60 * j + k) ∧ s.dayOf (60 * i + k) = s.dayOf (60 * j + k)
theorem p_kw {s : LSt} {i j : Nat} {A B : Led} (hA : RLd s i A) (hB : RLd s j B) : s.isWide i = s.isWide j ↔ lK A = lK B := by
  rw [hA.2.2.1, hB.2.2.1]
  cases lK A <;> cases lK B <;> decide
theorem p_mn {s : LSt} {i j : Nat} {A B : Led} (hA : RLd s i A) (hB : RLd s j B) : s.many i = s.many j ↔ lLn A = lLn B := by
  rw [hA.2.1, hB.2.1]
  exact w_eqI (by have := hA.1; omega) (by have := hB.1; omega)
theorem p_like_L {s : LSt} {i j : Nat} {A B : Led} (hA : RLd s i A) (hB : RLd s j B) (hk : lK A = lK B) (hn : lLn A = lLn B) {X : Int32 → Int32 → Prop} (h1 : (∀ k, k < lLn A → p_eqr s i j k) → ∀ v, X 1 v) (h0 : ¬ (∀ k, k < lLn A → p_eqr s i j k) → ∀ v, X 0 v) : ∀ m k, k + m = lLn A → (∀ l, l < k → p_eqr s i j l) → wX4_isLike_L30 (lK A) (lLn A) (lAc A) (lDa A) (lAm A) (lK B) (lLn B) (lAc B) (lDa B) (lAm B) X (m + 2) 1 (Int32.ofNat k) := by
  have hA1 := hA.1
  intro m
  induction m with
  | zero =>
    intro k hk2 h
    have e : k = lLn A := by omega
    subst e
    exact ⟨fun q => absurd q (by decide), fun _ => ⟨fun _ => h1 h _, fun c => absurd (Int32.le_refl _) c⟩⟩
  | succ m ih =>
    intro k hk2 h
    have a1 := p_amt hA (show k < lLn A by omega)
    have b1 := p_amt hB (show k < lLn B by omega)
    have pb : (2 : Nat) ^ 1174 ≤ 2 ^ 1201 := Nat.pow_le_pow_right (by decide) (by decide)
    have ea := (hA.2.2.2.2.1 k (by omega)).1
    have eb := (hB.2.2.2.2.1 k (by omega)).1
    have da := (hA.2.2.2.2.2.1 k (by omega)).1
    have db := (hB.2.2.2.2.2.1 k (by omega)).1
    have va : vp_in (Int32.ofNat k) (lLn A) := w_in (by omega) (by omega)
    have vb : vp_in (Int32.ofNat k) (lLn B) := w_in (by omega) (by omega)
    have bt : z_bt (lK A) (s.amountOf (60 * i + k)) = z_bt (lK B) (s.amountOf (60 * j + k)) ↔ s.amountOf (60 * i + k) = s.amountOf (60 * j + k) := by
      rw [← hk]
      exact z_bt_inj a1.1 (by rw [hk]; exact b1.1) (by omega) (by omega)
    have stop : ¬ p_eqr s i j k → wX4_isLike_L30 (lK A) (lLn A) (lAc A) (lDa A) (lAm A) (lK B) (lLn B) (lAc B) (lDa B) (lAm B) X (m + 2) 0 (Int32.ofNat k + 1) := fun q => ⟨fun _ => h0 (fun r => q (r k (by omega))) _, fun c => absurd rfl c⟩
    refine ⟨fun q => absurd q (by decide), fun _ => ⟨fun c => absurd c (w_nleO (by omega) (by omega) (by omega)), fun _ => p_at hA (by omega) (q_bits (zk_f a1.1) (by omega) (p_at hB (by omega) (q_bits (zk_f b1.1) (by omega) ⟨fun c x hx => ?_, fun c => ⟨va, vb, fun d x hx => ?_, fun d => ⟨va, vb, fun e x hx => ?_, fun e x hx => ?_⟩⟩⟩)))⟩⟩
    · rw [hx]
      exact stop (fun q => c (bt.mpr q.1))
    · rw [hx]
      rw [w_cl (by omega), ea, eb] at d
      exact stop (fun q => d q.2.1)
    · rw [hx]
      rw [w_cl (by omega), da, db] at e
      exact stop (fun q => e q.2.2)
    · rw [hx, w_suc]
      rw [w_cl (by omega), ea, eb] at d
      rw [w_cl (by omega), da, db] at e
      refine ih (k + 1) (by omega) (fun l hl => ?_)
      by_cases q : l = k
      · rw [q]; exact ⟨bt.mp c, d, e⟩
      · exact h l (by omega)
theorem p_wide1 {k : Bool} {K : Int32 → Prop} (hK : K (cond k 1 0)) : wL_isWide k K := by
  cases k <;> exact hK
theorem p_likeA_L {s : LSt} {i : Nat} {A : Led} (hA : RLd s i A) {X : Int32 → Int32 → Prop} (h1 : ∀ v, X 1 v) : ∀ m k, k + m = lLn A → wX4_isLike_A_L30 (lK A) (lLn A) (lAc A) (lDa A) (lAm A) X (m + 1) 1 (Int32.ofNat k) := by
  have hA1 := hA.1
  intro m
  induction m with
  | zero =>
    intro k hk2
    have e : k = lLn A := by omega
    subst e
    exact ⟨fun q => absurd q (by decide), fun _ => ⟨fun _ => h1 _, fun c => absurd (Int32.le_refl _) c⟩⟩
  | succ m ih =>
    intro k hk2
    have a1 := p_amt hA (show k < lLn A by omega)
    have pb : (2 : Nat) ^ 1174 ≤ 2 ^ 1201 := Nat.pow_le_pow_right (by decide) (by decide)
    have va : vp_in (Int32.ofNat k) (lLn A) := w_in (by omega) (by omega)
    refine ⟨fun q => absurd q (by decide), fun _ => ⟨fun c => absurd c (w_nleO (by omega) (by omega) (by omega)), fun _ => p_at hA (by omega) (q_bits (zk_f a1.1) (by omega) (p_at hA (by omega) (q_bits (zk_f a1.1) (by omega) ⟨fun c => absurd rfl c, fun c => ⟨va, va, fun d => absurd rfl d, fun d => ⟨va, va, fun e => absurd rfl e, fun e x hx => ?_⟩⟩⟩)))⟩⟩
    rw [hx, w_suc]
    exact ih (k + 1) (by omega)
theorem p_same_L {s : LSt} {i j : Nat} (hi : i < 12) (hj : j < 12) {A B : Led} (hA : RLd s i A) (hB : RLd s j B) (hn : lLn A = lLn B) {X : Int32 → Int32 → Prop} (h1 : (∀ k, k < lLn A → p_eqr s i j k) → ∀ v, X 1 v) (h0 : ¬ (∀ k, k < lLn A → p_eqr s i j k) → ∀ v, X 0 v) : ∀ m k, k + m = lLn A → (∀ l, l < k → p_eqr s i j l) → wX3_same_L73 s.many s.amountOf s.accountOf s.dayOf (Int32.ofNat i) (Int32.ofNat j) X (m + 2) 1 (Int32.ofNat k) := by
  have hA1 := hA.1
  have hm := hA.2.1
  intro m
  induction m with
  | zero =>
    intro k hk2 h
    have e : k = lLn A := by omega
    subst e
    unfold wX3_same_L73
    rw [w_cl (by omega), hm]
    exact ⟨w_in hi (by omega), fun _ => h1 h _, fun c => absurd (Int32.le_refl _) c⟩
  | succ m ih =>
    intro k hk2 h
    have a1 := p_amt hA (show k < lLn A by omega)
    have b1 := p_amt hB (show k < lLn B by omega)
    obtain ⟨i1, i2⟩ := p_60 hi (show k < 60 by omega)
    obtain ⟨j1, j2⟩ := p_60 hj (show k < 60 by omega)
    have stop : ¬ p_eqr s i j k → wX3_same_L73 s.many s.amountOf s.accountOf s.dayOf (Int32.ofNat i) (Int32.ofNat j) X (m + 2) 0 (Int32.ofNat k + 1) := by
      intro q
      unfold wX3_same_L73
      rw [w_cl (by omega), hm, w_suc]
      refine ⟨w_in hi (by omega), fun _ => h0 (fun r => q (r k (by omega))) _, fun _ => ⟨fun _ => h0 (fun r => q (r k (by omega))) _, fun c => absurd rfl c⟩⟩
    unfold wX3_same_L73
    rw [w_cl (by omega), hm, i2, j2]
    refine ⟨w_in hi (by omega), fun c => absurd c (w_nleO (by omega) (by omega) (by omega)), fun _ => ⟨fun q => absurd q (by decide), fun _ => ⟨i1, q12_bits (zk_f a1.1) ⟨j1, q12_bits (zk_f b1.1) ⟨fun c x hx => ?_, fun c => ⟨i1, j1, fun d x hx => ?_, fun d => ⟨i1, j1, fun e x hx => ?_, fun e x hx => ?_⟩⟩⟩⟩⟩⟩⟩
    · rw [hx]
      exact stop (fun q => c (by rw [q.1]))
    · rw [hx]
      exact stop (fun q => d q.2.1)
    · rw [hx]
      exact stop (fun q => e q.2.2)
    · rw [hx, w_suc]
      refine ih (k + 1) (by omega) (fun l hl => ?_)
      by_cases q : l = k
      · rw [q]
        exact ⟨congrArg Int64.toUInt64 c, d, e⟩
      · exact h l (by omega)
theorem p_same0 {s : LSt} {i j : Nat} (hi : i < 12) {A : Led} (hA : RLd s i A) {X : Int32 → Int32 → Prop} (h0 : ∀ v, X 0 v) : wX3_same_L73 s.many s.amountOf s.accountOf s.dayOf (Int32.ofNat i) (Int32.ofNat j) X 1 0 0 := by
  unfold wX3_same_L73
  rw [w_cl (by omega)]
  exact ⟨w_in hi (by omega), fun _ => h0 _, fun _ => ⟨fun _ => h0 _, fun c => absurd rfl c⟩⟩
theorem p_same3 {s : LSt} (hs : RR s) {p0 p1 : Int32} {A : Led} (hin : vp_in p0 12) (hc : cS s.cs p0.toNatClampNeg = some A) {K : Int32 → Int32 → Prop} (kn : vp_in p1 12 → cS s.cs p1.toNatClampNeg = none → K 0 1) (ko : ¬ vp_in p1 12 → K 0 2) (k0 : ∀ B, vp_in p1 12 → cS s.cs p1.toNatClampNeg = some B → ¬ (lK A = lK B ∧ lLn A = lLn B ∧ ∀ k, k < lLn A → p_eqr s p0.toNatClampNeg p1.toNatClampNeg k) → K 0 0) (k1 : ∀ B, vp_in p1 12 → cS s.cs p1.toNatClampNeg = some B → (lK A = lK B ∧ lLn A = lLn B ∧ ∀ k, k < lLn A → p_eqr s p0.toNatClampNeg p1.toNatClampNeg k) → K 1 0) : wX3_same p0 p1 s.thrown s.many s.isWide s.amountOf s.accountOf s.dayOf K := by
  obtain ⟨h12, e0⟩ := p_12 hin
  have hA := p_row hs h12 hc
  refine p_faultOf hs (fun _ _ _ => ⟨fun _ => ?_, fun h => absurd rfl h⟩) (fun _ q => by rw [hc] at q; cases q) (fun q => absurd hin q)
  refine p_faultOf hs (fun B hB hin2 => ⟨fun _ => ⟨hin, hin2, fun c => ⟨1, ?_⟩, fun c => ⟨hin, hin2, fun d => ⟨1, ?_⟩, fun d => ⟨lLn A + 2, ?_⟩⟩⟩, fun h => absurd rfl h⟩) (fun h q => ⟨fun h => absurd h (by decide), fun _ => kn h q⟩) (fun q => ⟨fun h => absurd h (by decide), fun _ => ko q⟩)
  · obtain ⟨j12, f0⟩ := p_12 hin2
    have hB2 := p_row hs j12 hB
    have := p_same0 (j := p1.toNatClampNeg) h12 hA (X := fun v3_16 _ => ((v3_16 = 0 → K 0 0) ∧ (¬ v3_16 = 0 → K 1 0))) (fun v => ⟨fun _ => k0 B hin2 hB (fun q => c ((p_kw hA hB2).mpr q.1)), fun q => absurd rfl q⟩)
    rw [← e0, ← f0] at this
    exact this
  · obtain ⟨j12, f0⟩ := p_12 hin2
    have hB2 := p_row hs j12 hB
    have := p_same0 (j := p1.toNatClampNeg) h12 hA (X := fun v3_16 _ => ((v3_16 = 0 → K 0 0) ∧ (¬ v3_16 = 0 → K 1 0))) (fun v => ⟨fun _ => k0 B hin2 hB (fun q => d ((p_mn hA hB2).mpr q.2.1)), fun q => absurd rfl q⟩)
    rw [← e0, ← f0] at this
    exact this
  · obtain ⟨j12, f0⟩ := p_12 hin2
    have hB2 := p_row hs j12 hB
    have ek := (p_kw hA hB2).mp c
    have en := (p_mn hA hB2).mp d
    have := p_same_L h12 j12 hA hB2 en (X := fun v3_16 _ => ((v3_16 = 0 → K 0 0) ∧ (¬ v3_16 = 0 → K 1 0))) (fun q v => ⟨fun h => absurd h (by decide), fun _ => k1 B hin2 hB ⟨ek, en, q⟩⟩) (fun q v => ⟨fun _ => k0 B hin2 hB (fun r => q r.2.2), fun h => absurd rfl h⟩) (lLn A) 0 (by omega) (fun l hl => by omega)
    rw [← e0, ← f0] at this
    exact this
theorem p_c8 {ta : Nat → ClassId} {L : Nat} {xf : Nat → Int32} (hL : L ≤ 320) (v4 : Int32) (s : LSt) (hs : RR s) (h1 : 0 ≤ v4.toInt) (h2 : v4.toInt + 5 ≤ (L : Int)) : wL_8 (LSt.thrown s) (LSt.many s) (LSt.isWide s) (LSt.amountOf s) (LSt.accountOf s) (LSt.dayOf s) (LSt.given s) (LSt.givenOf s) (LSt.runs s) (LSt.runWide s) (LSt.runWay s) (LSt.runTotal s) (LSt.runSteps s) (LSt.lefts s) (LSt.rights s) (LSt.results s) (LSt.wide s) (LSt.dn s) (LSt.stepsAt s) (LSt.keeps s) (LSt.order s) (LSt.att s) (LSt.spareAmount s) (LSt.spareAccount s) (LSt.spareDay s) (LSt.cured s) (LSt.cureOf s) (LSt.shareOf s) (LSt.big s) (LSt.unitsOf s) (LSt.spare s) (LSt.halfFrom s) (LSt.halfMany s) (LSt.halfDone s) (LSt.halfTotal s) (LSt.isFar s) (LSt.of s) (LSt.cur s) (LSt.cs s) ta v4 xf L (LSt.cs s) (lst RR) := by
  have v1 := p_v (j := 1) hL h1 h2 (by decide)
  have v2 := p_v (j := 2) hL h1 h2 (by decide)
  unfold wL_8
  refine ⟨v1, v2, ?_⟩
  generalize xf (v4 + 1).toNatClampNeg = p0
  generalize xf (v4 + 2).toNatClampNeg = p1
  unfold wX0_same bX1_same
  refine ⟨fun hin => ⟨fun A hc => ?_, fun hn => ?_⟩, fun hin => ?_⟩
  · obtain ⟨h12, e0⟩ := p_12 hin
    have hA := p_row hs h12 hc
    refine ⟨fun hin2 => ⟨fun B hB => ⟨fun e => ?_, fun e => ?_⟩, fun hn => ?_⟩, fun hin2 => ?_⟩
    · obtain ⟨j12, f0⟩ := p_12 hin2
      have e2 : p1 = p0 := by rw [f0, e0, e]
      subst e2
      rw [hc] at hB
      cases hB
      refine ⟨hin, p_cgs hs h12 hc, hin, p_cgs hs h12 hc, p_wide1 (p_wide1 ⟨fun q => absurd rfl q, fun _ => ⟨fun q => absurd rfl q, fun _ => ⟨lLn A + 1, p_likeA_L hA (fun v => ⟨Or.inr rfl, fun h => absurd h (by decide), fun _ y hy => ⟨p_z1, fun f hf => ⟨v1, v2, ?_⟩⟩⟩) (lLn A) 0 (by omega)⟩⟩⟩)⟩
      refine p_same3 hs hin hc (fun _ q => by rw [hc] at q; cases q) (fun q => absurd hin q) (fun B _ hB q => ?_) (fun B _ hB q => p_okk rfl rfl p_z1 ((p_upd0 hf).trans hy) (Or.inl hs))
      rw [hc] at hB
      cases hB
      exact absurd ⟨rfl, rfl, fun k _ => ⟨rfl, rfl, rfl⟩⟩ q
    · obtain ⟨j12, f0⟩ := p_12 hin2
      have hB2 := p_row hs j12 hB
      have m1 : ∀ (K : Int32 → Int32 → Prop), (lK A = lK B ∧ lLn A = lLn B ∧ ∀ k, k < lLn A → p_eqr s p0.toNatClampNeg p1.toNatClampNeg k) → K 1 0 → wX3_same p0 p1 s.thrown s.many s.isWide s.amountOf s.accountOf s.dayOf K := by
        intro K q hK
        refine p_same3 hs hin hc (fun _ q => by rw [hB] at q; cases q) (fun q => absurd hin2 q) (fun B' _ hB' q' => ?_) (fun _ _ _ _ => hK)
        rw [hB] at hB'
        cases hB'
        exact absurd q q'
      have m0 : ∀ (K : Int32 → Int32 → Prop), ¬ (lK A = lK B ∧ lLn A = lLn B ∧ ∀ k, k < lLn A → p_eqr s p0.toNatClampNeg p1.toNatClampNeg k) → K 0 0 → wX3_same p0 p1 s.thrown s.many s.isWide s.amountOf s.accountOf s.dayOf K := by
        intro K q hK
        refine p_same3 hs hin hc (fun _ q => by rw [hB] at q; cases q) (fun q => absurd hin2 q) (fun _ _ _ _ => hK) (fun B' _ hB' q' => ?_)
        rw [hB] at hB'
        cases hB'
        exact absurd q' q
      have lk : ∀ (K : Int32 → Prop), ((lK A = lK B ∧ lLn A = lLn B ∧ ∀ k, k < lLn A → p_eqr s p0.toNatClampNeg p1.toNatClampNeg k) → K 1) → (¬ (lK A = lK B ∧ lLn A = lLn B ∧ ∀ k, k < lLn A → p_eqr s p0.toNatClampNeg p1.toNatClampNeg k) → K 0) → wX4_isLike (lK A) (lLn A) (lAc A) (lDa A) (lAm A) (lK B) (lLn B) (lAc B) (lDa B) (lAm B) K := by
        intro K k1 k0
        have zero : (¬ (lK A = lK B ∧ lLn A = lLn B ∧ ∀ k, k < lLn A → p_eqr s p0.toNatClampNeg p1.toNatClampNeg k)) → wX4_isLike_J27 (lK A) (lLn A) (lAc A) (lDa A) (lAm A) (lK B) (lLn B) (lAc B) (lDa B) (lAm B) K 0 := fun q => ⟨1, fun _ => ⟨Or.inl rfl, k0 q⟩, fun c => absurd rfl c⟩
        have wide : ∀ (k : Bool) (K : Int32 → Prop), K (cond k 1 0) → wL_isWide k K := by
          intro k K hK
          cases k <;> exact hK
        refine wide _ _ (wide _ _ ⟨fun c => zero (fun q => c (by rw [q.1])), fun c => ⟨fun d => zero (fun q => d (by rw [q.2.1])), fun d => ?_⟩⟩)
        have ek : lK A = lK B := (p_kw hA hB2).mp (by rw [hA.2.2.1, hB2.2.2.1]; exact c)
        have en : lLn A = lLn B := (w_eqI (by have := hA.1; omega) (by have := hB2.1; omega)).mp d
        exact ⟨lLn A + 2, p_like_L hA hB2 ek en (fun q v => ⟨Or.inr rfl, k1 ⟨ek, en, q⟩⟩) (fun q v => ⟨Or.inl rfl, k0 (fun r => q r.2.2)⟩) (lLn A) 0 (by omega) (fun l hl => by omega)⟩
      refine ⟨hin, p_cgs hs h12 hc, hin2, p_cgs hs j12 hB, lk _ (fun q => ⟨fun h => absurd h (by decide), fun _ y hy => ⟨p_z1, fun f hf => ⟨v1, v2, m1 _ q (p_okk rfl rfl p_z1 ((p_upd0 hf).trans hy) (Or.inl hs))⟩⟩⟩) (fun q => ⟨fun _ y hy => ⟨p_z1, fun f hf => ⟨v1, v2, m0 _ q (p_okk rfl rfl p_z1 ((p_upd0 hf).trans hy) (Or.inl hs))⟩⟩, fun h => absurd rfl h⟩)⟩
    · obtain ⟨j12, f0⟩ := p_12 hin2
      have fin : ∀ (K : Int32 → Int32 → Prop), K 0 1 → wX3_same p0 p1 s.thrown s.many s.isWide s.amountOf s.accountOf s.dayOf K := fun K hK => p_same3 hs hin hc (fun _ _ => hK) (fun q => absurd hin2 q) (fun B _ hB => by rw [hn] at hB; cases hB) (fun B _ hB => by rw [hn] at hB; cases hB)
      refine ⟨hin, p_cgs hs h12 hc, fun q => absurd hin2 q, fun _ => ⟨p_cgn hs j12 hn, ?_⟩⟩
      cases lK A
      · exact Or.inl ⟨rfl, v1, v2, fin _ (p_ern rfl (by decide) (Or.inl hs))⟩
      · exact Or.inl ⟨rfl, v1, v2, fin _ (p_ern rfl (by decide) (Or.inl hs))⟩
    · refine ⟨hin, p_cgs hs h12 hc, fun _ => Or.inr ⟨rfl, v1, v2, ?_⟩, fun q => absurd q hin2⟩
      exact p_same3 hs hin hc (fun q => absurd q hin2) (fun _ => p_ern rfl (by decide) (Or.inl hs)) (fun B q => absurd q hin2) (fun B q => absurd q hin2)
  · obtain ⟨h12, e0⟩ := p_12 hin
    refine ⟨fun h => absurd hin h, fun _ => ⟨p_cgn hs h12 hn, Or.inl ⟨rfl, v1, v2, ?_⟩⟩⟩
    exact p_faultOf hs (fun _ q _ => by rw [hn] at q; cases q) (fun _ _ => ⟨fun h => absurd h (by decide), fun _ => p_faultOf hs (fun _ q _ => by rw [hn] at q; cases q) (fun _ _ => ⟨fun h => absurd h (by decide), fun _ => p_ern rfl (by decide) (Or.inl hs)⟩) (fun q => absurd hin q)⟩) (fun q => absurd hin q)
  · refine ⟨fun _ => Or.inr ⟨rfl, v1, v2, ?_⟩, fun h => absurd h hin⟩
    exact p_faultOf hs (fun _ _ q => absurd q hin) (fun q _ => absurd q hin) (fun _ => ⟨fun h => absurd h (by decide), fun _ => p_faultOf hs (fun _ _ q => absurd q hin) (fun q _ => absurd q hin) (fun _ => ⟨fun h => absurd h (by decide), fun _ => p_ern rfl (by decide) (Or.inl hs)⟩)⟩)
