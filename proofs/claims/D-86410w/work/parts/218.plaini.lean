/-! the plain law: runs; parts. By hand (gen/218.plaini.src.txt) -/
theorem w_inT {k n : Nat} (h : k < n) (hk : k < 2000000) : vp_in (Int32.ofNat k) n := vp_in_iff.mpr (by rw [nI_int (by omega)]; omega)
theorem p_runs {s : LSt} (hs : RR s) {p0 : Int32} (hin : vp_in p0 (cT s.cs).length) : ∃ t x, (cT s.cs)[p0.toNatClampNeg]? = some t ∧ cLa s.cs = some x ∧ RTp s p0.toNatClampNeg t ∧ p0 = Int32.ofNat p0.toNatClampNeg ∧ p0.toNatClampNeg < 60 ∧ (∀ K : Option Nat → Prop, K (some (tA t)) → wJ2_get p0 (cLz s.cs) x.2.1 x.2.2 K) ∧ (∀ K : Int32 → Prop, K 1 → wX1_isRun p0 (cLz s.cs) K) ∧ (∀ K : Int32 → Prop, K 0 → wX3_noRun p0 s.runs K) := by
  obtain ⟨hA, hG, ⟨hr, hlen, hlz, hls⟩, hT, hC, hS⟩ := id hs
  obtain ⟨i1, i2⟩ := vp_in_iff.mp hin
  have e : p0.toNatClampNeg = p0.toInt.toNat := rfl
  obtain ⟨l1, l2⟩ := p_ofn hin (by omega)
  obtain ⟨t, ht⟩ : ∃ t, (cT s.cs)[p0.toNatClampNeg]? = some t := ⟨_, List.getElem?_eq_getElem l1⟩
  cases hx : cLa s.cs with
  | none =>
    rw [hx] at hls
    have hls : cT s.cs = [] := hls
    rw [hls] at l1
    exact absurd l1 (by simp)
  | some x =>
    rw [hx] at hls
    obtain ⟨c1, c2, c3⟩ := hls
    refine ⟨t, x, ht, rfl, hT _ _ ht, l2, by omega, fun K k => ?_, fun K k => p_isRun hlz hlen (fun _ _ => k) (fun h => absurd ⟨i1, i2⟩ h), fun K k => p_noRun (hr.trans hlz) hlen (fun _ _ => k) (fun h => absurd ⟨i1, i2⟩ h)⟩
    refine p_get hlz hlen c1 i1 i2 ?_
    rw [c3 _ _ ht]
    exact k
theorem p_norun {s : LSt} (hs : RR s) {p0 : Int32} (hin : ¬ vp_in p0 (cT s.cs).length) : (∀ K : Int32 → Prop, K 0 → wX1_isRun p0 (cLz s.cs) K) ∧ (∀ K : Int32 → Prop, K 1 → wX3_noRun p0 s.runs K) := by
  obtain ⟨hA, hG, ⟨hr, hlen, hlz, hls⟩, hT, hC, hS⟩ := id hs
  have hin2 : ¬ (0 ≤ p0.toInt ∧ p0.toInt < (cT (LSt.cs s)).length) := fun h => hin (vp_in_iff.mpr h)
  exact ⟨fun K k => p_isRun hlz hlen (fun a b => absurd ⟨a, b⟩ hin2) (fun _ => k), fun K k => p_noRun (hr.trans hlz) hlen (fun a b => absurd ⟨a, b⟩ hin2) (fun _ => k)⟩
/-- a tape's length -/
theorem p_cnt {s : LSt} {r : Nat} {t : Tp} (h : RTp s r t) : ∃ n : Nat, n ≤ 60 ∧ n ≤ tNn t ∧ tC t = Int32.ofNat n ∧ s.runSteps r = Int32.ofNat n ∧ (tC t).toInt = (n : Int) := by
  obtain ⟨a1, a2, a3, a4, a5, a6, a7, a8, -⟩ := h
  refine ⟨(tC t).toInt.toNat, by omega, by omega, ?_, ?_, by omega⟩
  · rw [← Int32.toInt_inj, nI_int (by omega)]; omega
  · rw [← a4, ← Int32.toInt_inj, nI_int (by omega)]; omega
/-- its steps -/
theorem p_stp {s : LSt} {r : Nat} {t : Tp} (h : RTp s r t) {n : Nat} (hn : (tC t).toInt = (n : Int)) {k : Nat} (hk : k < n) : (tLl t k = s.lefts (60 * r + k) ∧ tRr t k = s.rights (60 * r + k) ∧ tSs t k = s.results (60 * r + k)) ∧ pB (tLl t k) ∧ pB (tRr t k) ∧ pB (tSs t k) := h.2.2.2.2.2.2.2.2.2 k (by omega)
theorem p_3600 {i k : Nat} (hi : i < 60) (hk : k < 60) : vp_in ((60 : Int32) * Int32.ofNat i + Int32.ofNat k) 3600 ∧ ((60 : Int32) * Int32.ofNat i + Int32.ofNat k).toNatClampNeg = 60 * i + k := by
  have e : (60 : Int32) * Int32.ofNat i + Int32.ofNat k = Int32.ofNat (60 * i + k) := by
    rw [show (60 : Int32) = Int32.ofNat 60 from rfl, ← Int32.ofNat_mul, ← Int32.ofNat_add]
  rw [e, w_cl (by omega)]
  exact ⟨w_inT (by omega) (by omega), rfl⟩
theorem p_kd (w : Int32) : w = 0 ↔ decide (w ≠ 0) = false := by
  rw [decide_eq_false_iff_not]
  exact ⟨fun h q => q h, fun h => Classical.byContradiction h⟩
theorem pB_b {u : UInt64} (h : pB u) : (zV u).natAbs ≤ 2 ^ 1201 := Nat.le_trans h.2 (Nat.pow_le_pow_right (by decide) (by decide))
theorem p_8bits {w : Int32} {v : UInt64} {K : Int64 → Prop} (h : pB v) (hK : K (z_bt (decide (w ≠ 0)) v)) : wX8_bits v w K := q8_bits (p_kd w) h.1 (pB_b h) hK
theorem p_3bits {w : Int32} {v : UInt64} {K : Int64 → Prop} (h : pB v) (hK : K (z_bt (decide (w ≠ 0)) v)) : wX3_bitsOf w v K := q3_bitsOf (p_kd w) h.1 (pB_b h) hK
theorem w_max {a b : Nat} (ha : a < 2000000) (hb : b < 2000000) {K : Int32 → Prop} (hK : K (Int32.ofNat (max a b))) : wJ13_max (Int32.ofNat a) (Int32.ofNat b) K := by
  unfold wJ13_max
  rw [w_ltI ha hb]
  refine ⟨fun c => ?_, fun c => ?_⟩
  · rw [show max a b = b by omega] at hK; exact hK
  · rw [show max a b = a by omega] at hK; exact hK
theorem w_leO {a b : Nat} (ha : a < 2000000) (hb : b < 2000000) (h : a ≤ b) : Int32.ofNat a ≤ Int32.ofNat b := (w_leI ha hb).mpr h
theorem w_nleO {a b : Nat} (ha : a < 2000000) (hb : b < 2000000) (h : b < a) : ¬ Int32.ofNat a ≤ Int32.ofNat b := fun q => by have := (w_leI ha hb).mp q; omega
theorem w_neO {a b : Nat} (ha : a < 2000000) (hb : b < 2000000) (h : a ≠ b) : ¬ Int32.ofNat a = Int32.ofNat b := fun q => h ((w_eqI ha hb).mp q)
theorem p_parts_L {s : LSt} {i j : Nat} {t z : Tp} (hi : i < 60) (hj : j < 60) (ht : RTp s i t) (hz : RTp s j z) {n n' : Nat} (h1 : n ≤ 60) (h2 : n ≤ tNn t) (h3 : tC t = Int32.ofNat n) (h4 : s.runSteps i = Int32.ofNat n) (h5 : (tC t).toInt = (n : Int)) (g1 : n' ≤ 60) (g2 : n' ≤ tNn z) (g3 : tC z = Int32.ofNat n') (g4 : s.runSteps j = Int32.ofNat n') (g5 : (tC z).toInt = (n' : Int)) : ∀ m k, k + m = n → k ≤ n' → ∃ r : Int32, (∀ K : Int32 → Prop, K r → wX1_parts_L51 (tW t) (Int32.ofNat n) (tNn t) (tSs t) (tW z) (Int32.ofNat n') (tNn z) (tSs z) (fun v => K v) (fun _ => K (-1)) (m + 1) (Int32.ofNat k)) ∧ (∀ K : Int32 → Int32 → Prop, K r 0 → wX3_parts_L26 s.runWide s.runSteps s.results (Int32.ofNat i) (Int32.ofNat j) (fun v => wX3_parts_J96 s.runSteps (Int32.ofNat i) (Int32.ofNat j) K v 0) (m + 1) (Int32.ofNat k)) := by
  intro m
  induction m with
  | zero =>
    intro k hk hk'
    have e : k = n := by omega
    subst e
    have J : ∀ (K : Int32 → Int32 → Prop), K (if k = n' then -1 else Int32.ofNat k) 0 → wX3_parts_J96 s.runSteps (Int32.ofNat i) (Int32.ofNat j) K (Int32.ofNat k) 0 := by
      intro K hK
      unfold wX3_parts_J96
      rw [w_cl (by omega), w_cl (by omega), h4, g4]
      refine ⟨w_in hi (by omega), fun c => absurd rfl c, fun _ => ⟨w_in hj (by omega), fun c => ?_, fun c => ?_⟩⟩
      · rw [if_neg (fun q => c (by rw [q]))] at hK; exact hK
      · rw [if_pos ((w_eqI (by omega) (by omega)).mp c)] at hK; exact hK
    refine ⟨if k = n' then -1 else Int32.ofNat k, fun K hK => ?_, fun K hK => ?_⟩
    · refine w_max (by omega) (by omega) ?_
      rw [show max k n' = n' by omega]
      refine ⟨fun c => ?_, fun c => ⟨fun _ => ?_, fun d => absurd (Int32.le_refl _) d⟩⟩
      · have := (w_leI (by omega) (by omega)).mp c
        rw [if_pos (by omega)] at hK; exact hK
      · rw [if_neg (fun q => c (by rw [q]; exact Int32.le_refl _))] at hK; exact hK
    · unfold wX3_parts_L26
      rw [w_cl (by omega), w_cl (by omega), h4]
      exact ⟨w_in hi (by omega), fun _ => J K hK, fun c => absurd (Int32.le_refl _) c⟩
  | succ m ih =>
    intro k hk hk'
    by_cases c : k = n'
    · subst c
      refine ⟨Int32.ofNat k, fun K hK => ?_, fun K hK => ?_⟩
      · refine w_max (by omega) (by omega) ?_
        rw [show max n k = n by omega]
        exact ⟨fun d => absurd d (w_nleO (by omega) (by omega) (by omega)), fun _ => ⟨fun d => absurd d (w_nleO (by omega) (by omega) (by omega)), fun _ => ⟨fun _ => hK, fun d => absurd (Int32.le_refl _) d⟩⟩⟩
      · unfold wX3_parts_L26
        rw [w_cl (by omega), w_cl (by omega), h4, g4]
        refine ⟨w_in hi (by omega), fun d => absurd d (w_nleO (by omega) (by omega) (by omega)), fun _ => ⟨w_in hj (by omega), fun _ => ?_, fun d => absurd (Int32.le_refl _) d⟩⟩
        unfold wX3_parts_J96
        rw [w_cl (by omega), h4]
        exact ⟨w_in hi (by omega), fun _ => hK, fun d => absurd d (w_neO (by omega) (by omega) (by omega))⟩
    · obtain ⟨⟨-, -, e1⟩, -, -, b1⟩ := p_stp ht h5 (show k < n by omega)
      obtain ⟨⟨-, -, e2⟩, -, -, b2⟩ := p_stp hz g5 (show k < n' by omega)
      have w1 := ht.2.1
      have w2 := hz.2.1
      obtain ⟨i1, i2⟩ := p_3600 hi (show k < 60 by omega)
      obtain ⟨j1, j2⟩ := p_3600 hj (show k < 60 by omega)
      obtain ⟨r, r1, r2⟩ := ih (k + 1) (by omega) (by omega)
      by_cases d : z_bt (decide (tW t ≠ 0)) (tSs t k) = z_bt (decide (tW z ≠ 0)) (tSs z k)
      · refine ⟨r, fun K hK => ?_, fun K hK => ?_⟩
        · refine w_max (by omega) (by omega) ⟨fun q => absurd q (w_nleO (by omega) (by omega) (by omega)), fun _ => ⟨fun q => absurd q (w_nleO (by omega) (by omega) (by omega)), fun _ => ⟨fun q => absurd q (w_nleO (by omega) (by omega) (by omega)), fun _ => ⟨w_inT (by omega) (by omega), ?_⟩⟩⟩⟩
          rw [w_cl (by omega)]
          refine p_8bits b1 ⟨w_inT (by omega) (by omega), p_8bits b2 ⟨fun _ x hx => ?_, fun q => absurd d q⟩⟩
          rw [hx, w_suc]
          exact r1 K hK
        · unfold wX3_parts_L26
          rw [w_cl (by omega), w_cl (by omega), h4, g4, i2, j2, ← e1, ← e2, ← w1, ← w2]
          refine ⟨w_in hi (by omega), fun q => absurd q (w_nleO (by omega) (by omega) (by omega)), fun _ => ⟨w_in hj (by omega), fun q => absurd q (w_nleO (by omega) (by omega) (by omega)), fun _ => ⟨w_in hi (by omega), i1, p_3bits b1 ⟨w_in hj (by omega), j1, p_3bits b2 ⟨fun q => absurd d q, fun _ x hx => ?_⟩⟩⟩⟩⟩
          rw [hx, w_suc]
          exact r2 K hK
      · refine ⟨Int32.ofNat k, fun K hK => ?_, fun K hK => ?_⟩
        · refine w_max (by omega) (by omega) ⟨fun q => absurd q (w_nleO (by omega) (by omega) (by omega)), fun _ => ⟨fun q => absurd q (w_nleO (by omega) (by omega) (by omega)), fun _ => ⟨fun q => absurd q (w_nleO (by omega) (by omega) (by omega)), fun _ => ⟨w_inT (by omega) (by omega), ?_⟩⟩⟩⟩
          rw [w_cl (by omega)]
          exact p_8bits b1 ⟨w_inT (by omega) (by omega), p_8bits b2 ⟨fun q => absurd q d, fun _ => hK⟩⟩
        · unfold wX3_parts_L26
          rw [w_cl (by omega), w_cl (by omega), h4, g4, i2, j2, ← e1, ← e2, ← w1, ← w2]
          refine ⟨w_in hi (by omega), fun q => absurd q (w_nleO (by omega) (by omega) (by omega)), fun _ => ⟨w_in hj (by omega), fun q => absurd q (w_nleO (by omega) (by omega) (by omega)), fun _ => ⟨w_in hi (by omega), i1, p_3bits b1 ⟨w_in hj (by omega), j1, p_3bits b2 ⟨fun _ => ?_, fun q => absurd q d⟩⟩⟩⟩⟩
          unfold wX3_parts_J96
          rw [w_cl (by omega), h4]
          exact ⟨w_in hi (by omega), fun _ => hK, fun q => absurd q (w_neO (by omega) (by omega) (by omega))⟩
theorem p_parts_A {t : Tp} {n : Nat} (h1 : n ≤ 60) (h2 : n ≤ tNn t) (hb : ∀ k, k < n → pB (tSs t k)) {K : Int32 → Prop} (hK : K (-1)) : ∀ m k, k + m = n → wX1_parts_A_L51 (tW t) (Int32.ofNat n) (tNn t) (tSs t) (fun v => K v) (fun _ => K (-1)) (m + 1) (Int32.ofNat k) := by
  intro m
  induction m with
  | zero =>
    intro k hk
    have e : k = n := by omega
    subst e
    refine w_max (by omega) (by omega) ?_
    rw [show max k k = k by omega]
    exact ⟨fun _ => hK, fun c => absurd (Int32.le_refl _) c⟩
  | succ m ih =>
    intro k hk
    refine w_max (by omega) (by omega) ?_
    rw [show max n n = n by omega]
    refine ⟨fun q => absurd q (w_nleO (by omega) (by omega) (by omega)), fun _ => ⟨fun q => absurd q (w_nleO (by omega) (by omega) (by omega)), fun _ => ⟨fun q => absurd q (w_nleO (by omega) (by omega) (by omega)), fun _ => ⟨w_inT (by omega) (by omega), ?_⟩⟩⟩⟩
    rw [w_cl (by omega)]
    refine p_8bits (hb k (by omega)) ⟨w_inT (by omega) (by omega), p_8bits (hb k (by omega)) ⟨fun _ x hx => ?_, fun q => absurd rfl q⟩⟩
    rw [hx, w_suc]
    exact ih (k + 1) (by omega)
theorem p_parts_3A {s : LSt} {i : Nat} {t : Tp} (hi : i < 60) (ht : RTp s i t) {n : Nat} (h1 : n ≤ 60) (h4 : s.runSteps i = Int32.ofNat n) (h5 : (tC t).toInt = (n : Int)) {K : Int32 → Int32 → Prop} (hK : K (-1) 0) : ∀ m k, k + m = n → wX3_parts_L26 s.runWide s.runSteps s.results (Int32.ofNat i) (Int32.ofNat i) (fun v => wX3_parts_J96 s.runSteps (Int32.ofNat i) (Int32.ofNat i) K v 0) (m + 1) (Int32.ofNat k) := by
  intro m
  induction m with
  | zero =>
    intro k hk
    have e : k = n := by omega
    subst e
    unfold wX3_parts_L26
    rw [w_cl (by omega), h4]
    refine ⟨w_in hi (by omega), fun _ => ?_, fun c => absurd (Int32.le_refl _) c⟩
    unfold wX3_parts_J96
    rw [w_cl (by omega), h4]
    exact ⟨w_in hi (by omega), fun c => absurd rfl c, fun _ => ⟨w_in hi (by omega), fun c => absurd rfl c, fun _ => hK⟩⟩
  | succ m ih =>
    intro k hk
    obtain ⟨⟨-, -, e1⟩, -, -, b1⟩ := p_stp ht h5 (show k < n by omega)
    obtain ⟨i1, i2⟩ := p_3600 hi (show k < 60 by omega)
    unfold wX3_parts_L26
    rw [w_cl (by omega), h4, i2, ← e1]
    refine ⟨w_in hi (by omega), fun q => absurd q (w_nleO (by omega) (by omega) (by omega)), fun _ => ⟨w_in hi (by omega), fun q => absurd q (w_nleO (by omega) (by omega) (by omega)), fun _ => ⟨w_in hi (by omega), i1, p_3bits b1 ⟨w_in hi (by omega), i1, p_3bits b1 ⟨fun q => absurd rfl q, fun _ x hx => ?_⟩⟩⟩⟩⟩
    rw [hx, w_suc]
    exact ih (k + 1) (by omega)
theorem p_c20 {ta : Nat → ClassId} {L : Nat} {xf : Nat → Int32} (hL : L ≤ 320) (v4 : Int32) (s : LSt) (hs : RR s) (h1 : 0 ≤ v4.toInt) (h2 : v4.toInt + 5 ≤ (L : Int)) : wL_20 (LSt.thrown s) (LSt.many s) (LSt.isWide s) (LSt.amountOf s) (LSt.accountOf s) (LSt.dayOf s) (LSt.given s) (LSt.givenOf s) (LSt.runs s) (LSt.runWide s) (LSt.runWay s) (LSt.runTotal s) (LSt.runSteps s) (LSt.lefts s) (LSt.rights s) (LSt.results s) (LSt.wide s) (LSt.dn s) (LSt.stepsAt s) (LSt.keeps s) (LSt.order s) (LSt.att s) (LSt.spareAmount s) (LSt.spareAccount s) (LSt.spareDay s) (LSt.cured s) (LSt.cureOf s) (LSt.shareOf s) (LSt.big s) (LSt.unitsOf s) (LSt.spare s) (LSt.halfFrom s) (LSt.halfMany s) (LSt.halfDone s) (LSt.halfTotal s) (LSt.isFar s) (LSt.of s) (LSt.cur s) (LSt.cs s) ta v4 xf L (LSt.cs s) (lst RR) := by
  have v1 := p_v (j := 1) hL h1 h2 (by decide)
  have v2 := p_v (j := 2) hL h1 h2 (by decide)
  unfold wL_20
  refine ⟨v1, v2, ?_⟩
  generalize xf (v4 + 1).toNatClampNeg = p0
  generalize xf (v4 + 2).toNatClampNeg = p1
  unfold bX1_parts
  refine ⟨fun hin => ⟨fun hin2 => ?_, fun hin2 => ?_⟩, fun hin => ?_⟩
  · obtain ⟨t, x, r1, r2, r3, r4, r5, r6, r7, r8⟩ := p_runs hs hin
    obtain ⟨z, x', u1, u2, u3, u4, u5, u6, u7, u8⟩ := p_runs hs hin2
    rw [r2] at u2
    cases u2
    obtain ⟨n, n1, n2, n3, n4, n5⟩ := p_cnt r3
    obtain ⟨n', m1, m2, m3, m4, m5⟩ := p_cnt u3
    refine ⟨fun x' hx' => ⟨fun t' ht' => ⟨fun z' hz' => ?_, fun q => by rw [u1] at q; cases q⟩, fun q => by rw [r1] at q; cases q⟩, fun q => by rw [r2] at q; cases q⟩
    rw [r2] at hx'
    cases hx'
    rw [r1] at ht'
    cases ht'
    rw [u1] at hz'
    cases hz'
    refine ⟨fun e => ?_, fun e => ?_⟩
    · have e2 : p1 = p0 := by rw [r4, u4, e]
      subst e2
      rw [r1] at u1
      cases u1
      refine r7 _ ⟨fun q => absurd q (by decide), fun _ => r7 _ ⟨fun _ => r6 _ ⟨rfl, r6 _ ⟨rfl, n + 1, ?_⟩⟩, fun q => absurd q (by decide)⟩⟩
      rw [n3]
      refine p_parts_A n1 n2 (fun k hk => (p_stp r3 n5 hk).2.2.2) ⟨v1, v2, ?_⟩ n 0 (by omega)
      refine r8 _ ⟨fun q => absurd rfl q, fun _ => r8 _ ⟨fun _ => ⟨n + 1, ?_⟩, fun q => absurd rfl q⟩⟩
      rw [r4]
      exact p_parts_3A r5 r3 n1 n4 n5 ⟨fun _ => Or.inl hs, fun q => q rfl⟩ n 0 (by omega)
    · refine r7 _ ⟨fun q => absurd q (by decide), fun _ => u7 _ ⟨fun _ => r6 _ ⟨rfl, u6 _ ⟨rfl, n + 1, ?_⟩⟩, fun q => absurd q (by decide)⟩⟩
      rw [n3, m3]
      obtain ⟨r, k1, k2⟩ := p_parts_L r5 u5 r3 u3 n1 n2 n3 n4 n5 m1 m2 m3 m4 m5 n 0 (by omega) (by omega)
      refine k1 _ ⟨v1, v2, ?_⟩
      refine r8 _ ⟨fun q => absurd rfl q, fun _ => u8 _ ⟨fun _ => ⟨n + 1, ?_⟩, fun q => absurd rfl q⟩⟩
      rw [r4, u4]
      exact k2 _ ⟨fun _ => Or.inl hs, fun q => q rfl⟩
  · obtain ⟨t, x, r1, r2, r3, r4, r5, r6, r7, r8⟩ := p_runs hs hin
    obtain ⟨q1, q2⟩ := p_norun hs hin2
    refine r7 _ ⟨fun q => absurd q (by decide), fun _ => q1 _ ⟨fun q => absurd rfl q, fun _ => ⟨v1, v2, ?_⟩⟩⟩
    exact r8 _ ⟨fun q => absurd rfl q, fun _ => q2 _ ⟨fun q => absurd q (by decide), fun _ => ⟨fun _ => Or.inl hs, fun q => q rfl⟩⟩⟩
  · obtain ⟨q1, q2⟩ := p_norun hs hin
    exact q1 _ ⟨fun _ => ⟨v1, v2, q2 _ ⟨fun _ => ⟨fun _ => Or.inl hs, fun q => q rfl⟩, fun q => absurd q (by decide)⟩⟩, fun q => absurd rfl q⟩
