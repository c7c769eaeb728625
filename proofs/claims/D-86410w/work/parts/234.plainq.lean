/-! the plain law: a new ledger; ledger. By hand (gen/234.plainq.src.txt) -/
theorem p_new {s s' : LSt} (hs : RR s) {i : Nat} {B : Led} (hi : i < 12) (hσ : cS s'.cs = upO (cS s.cs) i (some B)) (hγ : cG s'.cs = va_up (cG s.cs) i (some (lU B))) (hrow : RLd s' i B) (hoth : ∀ j : Nat, j < 12 → j ≠ i → s'.many j = s.many j ∧ ∀ C, RLd s j C → RLd s' j C) (hr : s'.runs = s.runs) (hT : cT s'.cs = cT s.cs) (hz : cLz s'.cs = cLz s.cs) (hl : cLa s'.cs = cLa s.cs) (hTp : ∀ r t, RTp s r t → RTp s' r t) (h1 : s'.cured = s.cured) (h2 : s'.cureOf = s.cureOf) (h3 : s'.cur = s.cur) (h4 : cSh s'.cs = cSh s.cs) (h5 : s'.shareOf = s.shareOf) (h6 : s'.keeps = s.keeps := by rfl) : RR s' := by
  obtain ⟨gA, gG, gR, gT, gC, gS⟩ := hs
  refine ⟨fun j hj => ?_, fun j hj => ?_, ?_, fun r t h => ?_, ?_, fun a ha => ?_, h6.trans gS.2⟩
  · by_cases e : j = i
    · subst e
      rw [hσ]
      show match (if j = j then some B else cS s.cs j) with | none => s'.many j = -1 | some L => RLd s' j L
      rw [if_pos rfl]
      exact hrow
    · rw [hσ]
      show match (if j = i then some B else cS s.cs j) with | none => s'.many j = -1 | some L => RLd s' j L
      rw [if_neg e]
      have h := gA j hj
      obtain ⟨o1, o2⟩ := hoth j hj e
      cases hj2 : cS s.cs j with
      | none => rw [hj2] at h; rw [o1]; exact h
      | some C => rw [hj2] at h; exact o2 C h
  · rw [hγ, hσ]
    show (if j = i then some (lU B) else cG s.cs j) = (if j = i then some B else cS s.cs j).map lU
    by_cases e : j = i
    · rw [if_pos e, if_pos e]; rfl
    · rw [if_neg e, if_neg e]; exact gG j hj
  · rw [hr, hz, hT, hl]; exact gR
  · rw [hT] at h; exact hTp r t (gT r t h)
  · rw [h1, h2, h3]; exact gC
  · rw [h4, h5]; exact gS.1 a ha
/-- a row is made fresh; all else stays -/
def p_frsh (i : Nat) (am0 am : Nat → UInt64) (ac0 ac da0 da : Nat → Int32) : Prop := (∀ l, l < 60 → am (60 * i + l) = FP.dconst0 ∧ ac (60 * i + l) = 0 ∧ da (60 * i + l) = 0) ∧ ∀ j, (j < 60 * i ∨ 60 * i + 60 ≤ j) → am j = am0 j ∧ ac j = ac0 j ∧ da j = da0 j
theorem p_fresh_L {i : Nat} (hi : i < 12) {am0 : Nat → UInt64} {ac0 da0 : Nat → Int32} {X : Int32 → (Nat → UInt64) → (Nat → Int32) → (Nat → Int32) → Prop} (hX : ∀ v am ac da, p_frsh i am0 am ac0 ac da0 da → X v am ac da) : ∀ m k, k + m = 60 → ∀ am ac da, (∀ l, l < k → am (60 * i + l) = FP.dconst0 ∧ ac (60 * i + l) = 0 ∧ da (60 * i + l) = 0) → (∀ j, (j < 60 * i ∨ 60 * i + 60 ≤ j) → am j = am0 j ∧ ac j = ac0 j ∧ da j = da0 j) → wX3_fresh_L27 (Int32.ofNat i) X (m + 1) (Int32.ofNat (60 * i + k)) am ac da := by
  have e60 : (60 : Int32) * Int32.ofNat i + 60 = Int32.ofNat (60 * i + 60) := by
    rw [show (60 : Int32) = Int32.ofNat 60 from rfl, ← Int32.ofNat_mul, ← Int32.ofNat_add]
  intro m
  induction m with
  | zero =>
    intro k hk am ac da h1 h2
    have e : k = 60 := by omega
    subst e
    unfold wX3_fresh_L27
    rw [e60]
    exact ⟨fun _ => hX _ _ _ _ ⟨h1, h2⟩, fun c => absurd (Int32.le_refl _) c⟩
  | succ m ih =>
    intro k hk am ac da h1 h2
    unfold wX3_fresh_L27
    rw [e60, w_cl (by omega)]
    have hv : vp_in (Int32.ofNat (60 * i + k)) 720 := w_in (by omega) (by omega)
    refine ⟨fun c => absurd c (w_nleO (by omega) (by omega) (by omega)), fun _ => ⟨hv, fun a9 q9 => ⟨hv, fun c10 q10 => ⟨hv, fun d11 q11 x hx => ?_⟩⟩⟩⟩
    rw [hx, w_suc]
    refine ih (k + 1) (by omega) a9 c10 d11 (fun l hl => ?_) (fun j hj => ?_)
    · rw [q9, q10, q11]
      simp only [vf_upd, upd]
      by_cases e : l = k
      · subst e
        rw [if_pos rfl, if_pos rfl, if_pos rfl]
        exact ⟨rfl, rfl, rfl⟩
      · rw [if_neg (by omega), if_neg (by omega), if_neg (by omega)]
        exact h1 l (by omega)
    · rw [q9, q10, q11]
      simp only [vf_upd, upd]
      rw [if_neg (by omega), if_neg (by omega), if_neg (by omega)]
      exact h2 j hj
theorem p_fresh {i : Nat} (hi : i < 12) {p1 p2 : Int32} {many isWide given ac0 da0 : Nat → Int32} {am0 : Nat → UInt64} {K : (Nat → Int32) → (Nat → Int32) → (Nat → UInt64) → (Nat → Int32) → (Nat → Int32) → (Nat → Int32) → Prop} (hK : ∀ am ac da, p_frsh i am0 am ac0 ac da0 da → K (upd many i p2) (upd isWide i (vp_nar .boolean p1)) am ac da (upd given i 0)) : wX3_fresh (Int32.ofNat i) p1 p2 many isWide am0 ac0 da0 given K := by
  unfold wX3_fresh
  have hv : vp_in (Int32.ofNat i) 12 := w_in hi (by omega)
  have e60 : (60 : Int32) * Int32.ofNat i = Int32.ofNat (60 * i) := by
    rw [show (60 : Int32) = Int32.ofNat 60 from rfl, ← Int32.ofNat_mul]
  rw [w_cl (by omega), e60]
  refine ⟨hv, fun m1 e1 => ⟨hv, fun w2 e2 => ⟨hv, fun g3 e3 x hx => ⟨61, ?_⟩⟩⟩⟩
  subst e1 e2 e3 hx
  exact p_fresh_L hi (fun v am ac da h => hK am ac da h) 60 0 rfl am0 ac0 da0 (fun l hl => by omega) (fun j _ => ⟨rfl, rfl, rfl⟩)
theorem p_oth {s s' : LSt} {i : Nat} (h1 : ∀ j, j ≠ i → s'.many j = s.many j ∧ s'.isWide j = s.isWide j ∧ s'.given j = s.given j) (h2 : ∀ j, (j < 60 * i ∨ 60 * i + 60 ≤ j) → s'.amountOf j = s.amountOf j ∧ s'.accountOf j = s.accountOf j ∧ s'.dayOf j = s.dayOf j) (h3 : s'.givenOf = s.givenOf) : ∀ j : Nat, j < 12 → j ≠ i → s'.many j = s.many j ∧ ∀ C, RLd s j C → RLd s' j C := by
  intro j hj hne
  obtain ⟨a1, a2, a3⟩ := h1 j hne
  refine ⟨a1, fun C hC => p_fr (s := s) a1 a2 (fun k hk => (h2 _ (by omega)).1) (fun k hk => (h2 _ (by omega)).2.1) (fun k hk => (h2 _ (by omega)).2.2) a3 (fun k hk => by rw [h3]) hC⟩
theorem p_upd_ne {f : Nat → Int32} {i j : Nat} {x : Int32} (h : j ≠ i) : upd f i x j = f j := if_neg h
theorem p_upd_eq {f : Nat → Int32} {i : Nat} {x : Int32} : upd f i x i = x := if_pos rfl
theorem p_bool (k : Bool) : vp_nar .boolean (cond k 1 0) = cond k 1 0 := by cases k <;> rfl
theorem p_d0 (k : Bool) : pVal k FP.dconst0 = FP.dconst0 ∧ pOk k FP.dconst0 := by
  cases k
  · exact ⟨by decide +kernel, by show (FP.dconst0.toUInt32 &&& 2147483647) ≤ 1904214016; decide +kernel⟩
  · exact ⟨rfl, by show (FP.dconst0 &&& 9223372036854775807) ≤ 5057542381537067008; decide +kernel⟩
theorem p_init5 {p2 : Int32} {n : Nat} (h : p2 = Int32.ofNat n) (hn : n ≤ 60) {K : Nat → Nat → Nat → Nat → Prop} (hK : ∀ a b c d, K a b c d) : wX5_init p2 K := by
  subst h
  have h1 : ¬ Int32.ofNat n < 0 := fun q => by rw [Int32.lt_iff_toInt_lt, nI_int (by omega), Int32.toInt_zero] at q; omega
  have h2 : (Int32.ofNat n).toNatClampNeg ≤ 60 := by rw [w_cl (by omega)]; exact hn
  exact ⟨h1, h2, fun a => ⟨h1, h2, fun b => ⟨h1, h2, fun c => ⟨h1, h2, fun d => hK a b c d⟩⟩⟩⟩
/-- the leaf: the model's fresh row against the component's new ledger -/
theorem p_ledS {s : LSt} (hs : RR s) {i n : Nat} (hi : i < 12) (hn : n ≤ 60) {kd : Bool} {am : Nat → UInt64} {ac da : Nat → Int32} (hf : p_frsh i s.amountOf am s.accountOf ac s.dayOf da) {ad : Nat × Nat × Nat × Nat × Nat} {f : Nat → Int64} {lm : Int32} {w1 w2 w3 : Nat → Int32} {th : Int32} (hlm : lm = cLm s.cs) : lst RR th (upd s.many i (Int32.ofNat n)) (upd s.isWide i (vp_nar .boolean (cond kd 1 0))) am ac da (upd s.given i 0) s.givenOf s.runs s.runWide s.runWay s.runTotal s.runSteps s.lefts s.rights s.results s.wide s.dn s.stepsAt s.keeps s.order s.att s.spareAmount s.spareAccount s.spareDay s.cured s.cureOf s.shareOf s.big s.unitsOf s.spare s.halfFrom s.halfMany s.halfDone s.halfTotal s.isFar f s.cur ((upO (cS s.cs) i (some (ad, kd, 0, n, (fun _ => 0), (fun _ => 0), (fun _ => 0), (fun _ => FP.dconst0)))), (cT s.cs), va_up (cG s.cs) i (some ad.1), (lm, (cLz s.cs), (cLa s.cs)), w1, w2, w3, (cSh s.cs)) := by
  obtain ⟨f1, f2⟩ := hf
  refine Or.inl (p_new (B := (ad, kd, 0, n, (fun _ => 0), (fun _ => 0), (fun _ => 0), (fun _ => FP.dconst0))) hs hi rfl rfl ⟨hn, p_upd_eq, ?_, fun k hk => ?_, fun k hk => ?_, fun k hk => ?_, ?_⟩ (p_oth (fun j hj => ⟨p_upd_ne hj, p_upd_ne hj, p_upd_ne hj⟩) f2 rfl) rfl rfl rfl rfl (fun _ _ h => h) rfl rfl rfl rfl rfl)
  · show upd s.isWide i _ i = cond kd 1 0
    rw [p_upd_eq, p_bool]
  · obtain ⟨e1, e2⟩ := p_d0 kd
    refine ⟨?_, e2⟩
    show pVal kd FP.dconst0 = am (60 * i + k)
    have hk : k < n := hk
    rw [e1, (f1 k (by omega)).1]
  · have hk : k < n := hk
    exact ⟨(f1 k (by omega)).2.1.symm, by show (0 : Int) ≤ (0 : Int32).toInt; decide, by show (0 : Int32).toInt < 10; decide⟩
  · have hk : k < n := hk
    exact ⟨(f1 k (by omega)).2.2.symm, by show (0 : Int) ≤ (0 : Int32).toInt; decide, by show (0 : Int32).toInt < 31; decide⟩
  · refine ⟨p_upd_eq.symm, Int.le_refl _, Int.natCast_nonneg _, fun k hk => ?_⟩
    have hk : (k : Int) < (0 : Int32).toInt := hk
    rw [Int32.toInt_zero] at hk
    omega
theorem p_led3 {s : LSt} {p0 p1 p2 : Int32} {K : Int32 → Int32 → (Nat → Int32) → (Nat → Int32) → (Nat → UInt64) → (Nat → Int32) → (Nat → Int32) → (Nat → Int32) → Prop} (ko : ¬ vp_in p0 12 → K 0 1 s.many s.isWide s.amountOf s.accountOf s.dayOf s.given) (kb : vp_in p0 12 → 60 < p2.toInt → K (-102) 0 s.many s.isWide s.amountOf s.accountOf s.dayOf s.given) (kn : vp_in p0 12 → p2.toInt < 0 → K 0 2 s.many s.isWide s.amountOf s.accountOf s.dayOf s.given) (kg : vp_in p0 12 → 0 ≤ p2.toInt → p2.toInt ≤ 60 → wX3_fresh p0 p1 p2 s.many s.isWide s.amountOf s.accountOf s.dayOf s.given (fun (many_2 : Nat → Int32) (isWide_3 : Nat → Int32) (amountOf_4 : Nat → UInt64) (accountOf_5 : Nat → Int32) (dayOf_6 : Nat → Int32) (given_7 : Nat → Int32) => K p2 (0 : Int32) many_2 isWide_3 amountOf_4 accountOf_5 dayOf_6 given_7)) : wX3_ledger p0 p1 p2 s.thrown s.many s.isWide s.amountOf s.accountOf s.dayOf s.given K := by
  have e60 : (60 : Int32).toInt = 60 := by decide
  refine p_in3 (fun a b => ⟨fun _ => ⟨fun c => ⟨fun d => ?_, fun d => ?_⟩, fun c => ?_⟩, fun q => absurd q (by decide)⟩) (fun h => ⟨fun q => absurd rfl q, fun _ => ?_⟩)
  · have a : 0 ≤ p0.toInt := a
    have b : p0.toInt ≤ 11 := b
    rw [Int32.le_iff_toInt_le, e60] at c
    rw [Int32.le_iff_toInt_le, Int32.toInt_zero] at d
    exact kg (vp_in_iff.mpr ⟨a, by omega⟩) d c
  · have a : 0 ≤ p0.toInt := a
    have b : p0.toInt ≤ 11 := b
    rw [Int32.le_iff_toInt_le, Int32.toInt_zero] at d
    exact kn (vp_in_iff.mpr ⟨a, by omega⟩) (by omega)
  · have a : 0 ≤ p0.toInt := a
    have b : p0.toInt ≤ 11 := b
    rw [Int32.le_iff_toInt_le, e60] at c
    exact kb (vp_in_iff.mpr ⟨a, by omega⟩) (by omega)
  · refine ko (fun q => ?_)
    have := vp_in_iff.mp q
    have h : p0.toInt < 0 ∨ 11 < p0.toInt := h
    omega
theorem p_ldC {ta : Nat → ClassId} {s : LSt} {p0 p2 : Int32} {kd : Bool} {K : Int32 → (Nat → Int64) → Int32 → CS → Prop} {E : String → (Nat → Int64) → Int32 → CS → Prop} (ko : ¬ vp_in p0 12 → K 1 s.of s.cur s.cs) (kb : vp_in p0 12 → 60 < p2.toInt → ∀ f : Nat → Int64, f (0 : Int32).toNatClampNeg = (-102 : Int32).toInt64 → K 0 f s.cur s.cs) (kn : vp_in p0 12 → p2.toInt < 0 → K 2 s.of s.cur s.cs) (kg : vp_in p0 12 → ∀ n : Nat, n ≤ 60 → p2 = Int32.ofNat n → ∀ (f : Nat → Int64) (ad : Nat × Nat × Nat × Nat × Nat), f (0 : Int32).toNatClampNeg = p2.toInt64 → K 0 f s.cur ((upO (cS s.cs) p0.toNatClampNeg (some (ad, kd, 0, n, (fun _ => 0), (fun _ => 0), (fun _ => 0), (fun _ => FP.dconst0)))), (cT s.cs), va_up (cG s.cs) p0.toNatClampNeg (some ad.1), ((cLm s.cs), (cLz s.cs), (cLa s.cs)), (cW1 s.cs), (cW2 s.cs), (cW3 s.cs), (cSh s.cs))) : wX0_ledger p0 (cond kd 1 0) p2 s.of s.cur ta s.cs K E := by
  have e60 : (60 : Int32).toInt = 60 := by decide
  unfold wX0_ledger bX1_ledger
  refine ⟨fun hin => ⟨fun c => ?_, fun c => ⟨fun d => ?_, fun d => ?_⟩⟩, fun hin => ?_⟩
  · have c := c
    rw [Int32.lt_iff_toInt_lt, e60] at c
    refine ⟨fun q => absurd hin q, fun _ => ⟨fun q => ?_, fun _ y hy => ⟨p_z1, fun f hf => kb hin c f ((p_upd0 hf).trans hy)⟩⟩⟩
    rw [Int32.le_iff_toInt_le, e60] at q
    omega
  · have c2 := c
    rw [Int32.lt_iff_toInt_lt, e60] at c2
    have d2 := d
    rw [Int32.lt_iff_toInt_lt, Int32.toInt_zero] at d2
    have le : p2 ≤ 60 := by rw [Int32.le_iff_toInt_le, e60]; omega
    exact ⟨fun e => ⟨hin, fun _ => ⟨fun _ a => ⟨d, Or.inr ⟨rfl, kn hin d2⟩⟩, fun q => absurd e q⟩, fun q => absurd le q⟩, fun e => ⟨hin, fun _ => ⟨fun q => absurd q e, fun _ a => ⟨d, Or.inr ⟨rfl, kn hin d2⟩⟩⟩, fun q => absurd le q⟩⟩
  · have c2 := c
    rw [Int32.lt_iff_toInt_lt, e60] at c2
    have d2 := d
    rw [Int32.lt_iff_toInt_lt, Int32.toInt_zero] at d2
    have le : p2 ≤ 60 := by rw [Int32.le_iff_toInt_le, e60]; omega
    obtain ⟨n, hn⟩ : ∃ n : Nat, p2.toInt = (n : Int) := ⟨p2.toInt.toNat, by omega⟩
    have ep2 : p2 = Int32.ofNat n := by rw [← Int32.toInt_inj, nI_int (by omega), hn]
    have ecl : p2.toNatClampNeg = n := by rw [ep2, w_cl (by omega)]
    rw [ecl]
    refine ⟨fun e => ⟨hin, fun _ => ⟨fun _ a => p_init5 ep2 (by omega) (fun b1 b2 b3 b4 => ⟨rfl, hin, fun f7 h7 y hy => ⟨p_z1, fun f hf => ?_⟩⟩), fun q => absurd e q⟩, fun q => absurd le q⟩, fun e => ⟨hin, fun _ => ⟨fun q => absurd q e, fun _ a => p_init5 ep2 (by omega) (fun b1 b2 b3 b4 => ⟨rfl, hin, fun f7 h7 y hy => ⟨p_z1, fun f hf => ?_⟩⟩)⟩, fun q => absurd le q⟩⟩
    · have hk : kd = false := (z_cnd kd).mp e
      subst hk h7
      exact kg hin n (by omega) ep2 f (a, b1, b2, b3, b4) ((p_upd0 hf).trans hy)
    · have hk : kd = true := by
        cases kd
        · exact absurd rfl e
        · rfl
      subst hk h7
      exact kg hin n (by omega) ep2 f (a, b1, b2, b3, b4) ((p_upd0 hf).trans hy)
  · exact ⟨fun _ => Or.inl ⟨rfl, ko hin⟩, fun q => absurd q hin⟩
theorem p_c0 {ta : Nat → ClassId} {L : Nat} {xf : Nat → Int32} (hL : L ≤ 320) (v4 : Int32) (s : LSt) (hs : RR s) (h1 : 0 ≤ v4.toInt) (h2 : v4.toInt + 5 ≤ (L : Int)) : wL_0 (LSt.thrown s) (LSt.many s) (LSt.isWide s) (LSt.amountOf s) (LSt.accountOf s) (LSt.dayOf s) (LSt.given s) (LSt.givenOf s) (LSt.runs s) (LSt.runWide s) (LSt.runWay s) (LSt.runTotal s) (LSt.runSteps s) (LSt.lefts s) (LSt.rights s) (LSt.results s) (LSt.wide s) (LSt.dn s) (LSt.stepsAt s) (LSt.keeps s) (LSt.order s) (LSt.att s) (LSt.spareAmount s) (LSt.spareAccount s) (LSt.spareDay s) (LSt.cured s) (LSt.cureOf s) (LSt.shareOf s) (LSt.big s) (LSt.unitsOf s) (LSt.spare s) (LSt.halfFrom s) (LSt.halfMany s) (LSt.halfDone s) (LSt.halfTotal s) (LSt.isFar s) (LSt.of s) (LSt.cur s) (LSt.cs s) ta v4 xf L (LSt.cs s) (lst RR) := by
  have v1 := p_v (j := 1) hL h1 h2 (by decide)
  have v2 := p_v (j := 2) hL h1 h2 (by decide)
  have v3 := p_v (j := 3) hL h1 h2 (by decide)
  unfold wL_0
  refine ⟨v1, v2, fun c => ?_, fun c => ?_⟩
  · unfold wL_0_J205
    refine ⟨v3, p_ldC (kd := false) (fun hin => ⟨v1, v2, fun _ => ⟨v3, ?_⟩, fun q => absurd c q⟩) (fun hin hb f hf => ⟨v1, v2, fun _ => ⟨v3, ?_⟩, fun q => absurd c q⟩) (fun hin hb => ⟨v1, v2, fun _ => ⟨v3, ?_⟩, fun q => absurd c q⟩) (fun hin n hn ep f ad hf => ⟨v1, v2, fun _ => ⟨v3, ?_⟩, fun q => absurd c q⟩)⟩
    · exact p_led3 (fun _ => p_ern rfl (by decide) (Or.inl hs)) (fun q => absurd q hin) (fun q => absurd q hin) (fun q => absurd q hin)
    · exact p_led3 (fun q => absurd hin q) (fun _ _ => p_okk rfl rfl p_z1 hf (Or.inl hs)) (fun _ q => by omega) (fun _ q1 q2 => by omega)
    · exact p_led3 (fun q => absurd hin q) (fun _ q => by omega) (fun _ _ => p_ern rfl (by decide) (Or.inl hs)) (fun _ q1 q2 => by omega)
    · obtain ⟨h12, e0⟩ := p_12 hin
      have en : (xf (v4 + 3).toNatClampNeg).toInt = (n : Int) := by rw [ep, nI_int (by omega)]
      refine p_led3 (fun q => absurd hin q) (fun _ q => by omega) (fun _ q => by omega) (fun _ _ _ => ?_)
      have key := fun (K : (Nat → Int32) → (Nat → Int32) → (Nat → UInt64) → (Nat → Int32) → (Nat → Int32) → (Nat → Int32) → Prop) => p_fresh (p1 := cond false 1 0) (p2 := xf (v4 + 3).toNatClampNeg) (many := s.many) (isWide := s.isWide) (given := s.given) (ac0 := s.accountOf) (da0 := s.dayOf) (am0 := s.amountOf) h12 (K := K)
      rw [← e0] at key
      refine key _ (fun am ac da hfr => p_okk rfl rfl p_z1 hf ?_)
      rw [ep]
      exact p_ledS hs h12 hn (kd := false) hfr (ad := ad) rfl
  · unfold wL_0_J205
    refine ⟨v3, p_ldC (kd := true) (fun hin => ⟨v1, v2, fun q => absurd q c, fun _ => ⟨v3, ?_⟩⟩) (fun hin hb f hf => ⟨v1, v2, fun q => absurd q c, fun _ => ⟨v3, ?_⟩⟩) (fun hin hb => ⟨v1, v2, fun q => absurd q c, fun _ => ⟨v3, ?_⟩⟩) (fun hin n hn ep f ad hf => ⟨v1, v2, fun q => absurd q c, fun _ => ⟨v3, ?_⟩⟩)⟩
    · exact p_led3 (fun _ => p_ern rfl (by decide) (Or.inl hs)) (fun q => absurd q hin) (fun q => absurd q hin) (fun q => absurd q hin)
    · exact p_led3 (fun q => absurd hin q) (fun _ _ => p_okk rfl rfl p_z1 hf (Or.inl hs)) (fun _ q => by omega) (fun _ q1 q2 => by omega)
    · exact p_led3 (fun q => absurd hin q) (fun _ q => by omega) (fun _ _ => p_ern rfl (by decide) (Or.inl hs)) (fun _ q1 q2 => by omega)
    · obtain ⟨h12, e0⟩ := p_12 hin
      have en : (xf (v4 + 3).toNatClampNeg).toInt = (n : Int) := by rw [ep, nI_int (by omega)]
      refine p_led3 (fun q => absurd hin q) (fun _ q => by omega) (fun _ q => by omega) (fun _ _ _ => ?_)
      have key := fun (K : (Nat → Int32) → (Nat → Int32) → (Nat → UInt64) → (Nat → Int32) → (Nat → Int32) → (Nat → Int32) → Prop) => p_fresh (p1 := cond true 1 0) (p2 := xf (v4 + 3).toNatClampNeg) (many := s.many) (isWide := s.isWide) (given := s.given) (ac0 := s.accountOf) (da0 := s.dayOf) (am0 := s.amountOf) h12 (K := K)
      rw [← e0] at key
      refine key _ (fun am ac da hfr => p_okk rfl rfl p_z1 hf ?_)
      rw [ep]
      exact p_ledS hs h12 hn (kd := true) hfr (ad := ad) rfl
