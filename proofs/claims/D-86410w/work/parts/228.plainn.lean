/-! the plain law: set, give. By hand (gen/228.plainn.src.txt) -/
theorem w_31 (p : Int32) : (p &&& 2147483647).toInt = ((p.toUInt32.toNat % 2147483648 : Nat) : Int) := by
  rw [w_and32 (k := 31) (by decide) rfl, w_mod32 p (by decide)]
  rfl
theorem w_le31 {p : Int32} {C : UInt32} (hC : C.toNat < 2147483648) : (p &&& 2147483647) ≤ C.toInt32 ↔ p.toUInt32 &&& 2147483647 ≤ C := by
  have e : C.toInt32.toInt = (C.toNat : Int) := BitVec.toInt_eq_toNat_of_lt (show 2 * C.toNat < 2 ^ 32 by omega)
  rw [Int32.le_iff_toInt_le, w_31, e, UInt32.le_iff_toNat_le, f_and]
  omega
theorem w_fE32 (p : Int32) : ((jishr p 23) &&& 255) = 255 ↔ ¬ ff p.toUInt32 := by
  have e : ((jishr p 23) &&& 255).toInt = ((p.toUInt32.toNat / 8388608 % 256 : Nat) : Int) := by
    rw [w_and32 (k := 8) (by decide) rfl, show (23 : Int32) = Int32.ofNat 23 from rfl, w_ishr (by decide)]
    have h1 := w_mod32 p (k := 32) (by decide)
    have h2 := p.toUInt32.toNat_lt
    rw [Nat.mod_eq_of_lt p.toBitVec.isLt] at h1
    have h1 : p.toInt % 4294967296 = (p.toUInt32.toNat : Int) := h1
    show p.toInt / 8388608 % 256 = _
    omega
  rw [← Int32.toInt_inj, e]
  unfold ff
  rw [f_E]
  show ((p.toUInt32.toNat / 8388608 % 256 : Nat) : Int) = 255 ↔ _
  omega
/-- the number that bits stand for, in a kind; whether it may be -/
def p_nb (k : Bool) (p : Int64) : UInt64 := match k with | true => p.toUInt64 | false => FP.f2d p.toInt32.toUInt32
def p_gd (k : Bool) (p : Int64) : Prop := match k with | true => zf p.toUInt64 ∧ (zV p.toUInt64).natAbs ≤ 2 ^ 1174 | false => ff p.toInt32.toUInt32 ∧ (fV p.toInt32.toUInt32).natAbs ≤ 2 ^ 1174
theorem p_amW (am : Nat → UInt64) (k : Nat) : (amW (amN am) k).toUInt32 = (am k).toUInt32 := by
  show ((am k).toUInt32.toUInt64).toUInt32 = _
  rw [← UInt32.toNat_inj]
  simp
theorem p_putX {kd : Bool} {p1 : Int32} {p : Int64} {ln : Nat} {am : Nat → UInt64} {K : Int32 → (Nat → UInt64) → Prop} {E : String → (Nat → UInt64) → Prop} (hln : ln ≤ 1000) (hv : vp_in p1 ln) (hg : p_gd kd p → ∀ am', (∀ k, (k ≠ p1.toNatClampNeg → pVal kd (am' k) = pVal kd (am k) ∧ (pOk kd (am k) → pOk kd (am' k))) ∧ (k = p1.toNatClampNeg → pVal kd (am' k) = p_nb kd p ∧ pOk kd (am' k))) → K 1 am') (hb : ¬ p_gd kd p → ∀ am', (∀ k, pVal kd (am' k) = pVal kd (am k) ∧ (pOk kd (am k) → pOk kd (am' k))) → K 0 am') : wL_put_X kd p1 p ln am K E := by
  cases kd
  · have sameN : ∀ k, pVal false (amW (amN am) k) = pVal false (am k) ∧ (pOk false (am k) → pOk false (amW (amN am) k)) := by
      intro k
      refine ⟨?_, fun h => ?_⟩
      · show FP.f2d (amW (amN am) k).toUInt32 = FP.f2d (am k).toUInt32
        rw [p_amW]
      · show (amW (amN am) k).toUInt32 &&& 2147483647 ≤ 1904214016
        rw [p_amW]
        exact h
    refine ⟨hln, fun q => absurd hv q, fun _ u1 hu1 => q11_bits f_c100.1 ⟨fun c => ?_, fun c => ?_⟩⟩
    · have c := f_ok.mp ((w_le31 (by decide)).mp c)
      refine ⟨f_sni c.1, fun r3 hr3 => ⟨hln, fun q => absurd hv q, fun _ f4 hf4 => hg c _ (fun k => ⟨fun hk => ?_, fun hk => ?_⟩)⟩⟩
      · have e : f4 k = amN am k := by rw [hf4]; exact if_neg hk
        have e2 : amW f4 k = amW (amN am) k := by show (f4 k).toUInt64 = _; rw [e]; rfl
        rw [e2]
        exact sameN k
      · have e : f4 k = p.toInt32.toUInt32 := by rw [hf4, hr3]; exact if_pos hk
        have e2 : (amW f4 k).toUInt32 = p.toInt32.toUInt32 := by
          show (f4 k).toUInt64.toUInt32 = _
          rw [e, ← UInt32.toNat_inj]
          simp
        refine ⟨?_, ?_⟩
        · show FP.f2d (amW f4 k).toUInt32 = FP.f2d p.toInt32.toUInt32
          rw [e2]
        · show (amW f4 k).toUInt32 &&& 2147483647 ≤ 1904214016
          rw [e2]
          exact f_ok.mpr c
    · exact hb (fun q => c ((w_le31 (by decide)).mpr (f_ok.mpr q))) _ sameN
  · refine ⟨hln, fun q => absurd hv q, fun _ u1 hu1 => q12_bits z_c100.1 ⟨fun c => ?_, fun c => ?_⟩⟩
    · have c := z_ok.mp ((w_le63 (by decide)).mp c)
      refine ⟨z_snl c.1, fun r3 hr3 => ⟨hln, fun q => absurd hv q, fun _ f4 hf4 => hg c _ (fun k => ⟨fun hk => ?_, fun hk => ?_⟩)⟩⟩
      · have e : f4 k = am k := by rw [hf4]; exact if_neg hk
        rw [e]
        exact ⟨rfl, fun h => h⟩
      · have e : f4 k = p.toUInt64 := by rw [hf4, hr3]; exact if_pos hk
        rw [e]
        exact ⟨rfl, z_ok.mpr c⟩
    · exact hb (fun q => c ((w_le63 (by decide)).mpr (z_ok.mpr q))) _ (fun k => ⟨rfl, fun h => h⟩)
theorem z_cn100 : zf 14280914418391842816 ∧ zV 14280914418391842816 = -((2 ^ 1174 : Nat) : Int) := by
  refine ⟨by unfold zf; decide +kernel, by decide +kernel⟩
theorem z_c100' : zV 5057542381537067008 = ((2 ^ 1174 : Nat) : Int) := by decide +kernel
theorem p_set3 {s : LSt} {i : Nat} {A : Led} (hi : i < 12) (hA : RLd s i A) {p1 : Int32} (hv : vp_in p1 (lLn A)) {p : Int64} {K : Int32 → Int32 → (Nat → UInt64) → Prop} (hg : p_gd (lK A) p → ∀ am', am' = vf_upd s.amountOf (60 * i + p1.toNatClampNeg) (p_nb (lK A) p) → K 1 0 am') (hb : ¬ p_gd (lK A) p → K (-102) 0 s.amountOf) : ((s.isWide (Int32.ofNat i).toNatClampNeg) = (0 : Int32) → ((((jishr p.toInt32 (23 : Int32)) &&& (255 : Int32)) = (255 : Int32) → (wX3_set_J71 s.isWide s.amountOf (Int32.ofNat i) p1 p K (0 : Int32) 0)) ∧ (¬ ((jishr p.toInt32 (23 : Int32)) &&& (255 : Int32)) = (255 : Int32) → (wX3_set_J71 s.isWide s.amountOf (Int32.ofNat i) p1 p K (1 : Int32) 0)))) ∧ (¬ (s.isWide (Int32.ofNat i).toNatClampNeg) = (0 : Int32) → ((((jlshr p (52 : Int32)) &&& (2047 : Int64)) = (2047 : Int64) → (wX3_set_J71 s.isWide s.amountOf (Int32.ofNat i) p1 p K (0 : Int32) 0)) ∧ (¬ ((jlshr p (52 : Int32)) &&& (2047 : Int64)) = (2047 : Int64) → (wX3_set_J71 s.isWide s.amountOf (Int32.ofNat i) p1 p K (1 : Int32) 0)))) := by
  have hn := hA.1
  have hw := p_wide hA
  obtain ⟨c1, c2⟩ := p_ofn hv (by omega)
  obtain ⟨i1, i2⟩ := p_60 hi (show p1.toNatClampNeg < 60 by omega)
  rw [← c2] at i1 i2
  have hvi : vp_in (Int32.ofNat i) 12 := w_in hi (by omega)
  have zero : wX3_set_J71 s.isWide s.amountOf (Int32.ofNat i) p1 p K 0 0 ↔ K (-102) 0 s.amountOf := ⟨fun h => h.2 rfl, fun h => ⟨fun q => absurd rfl q, fun _ => h⟩⟩
  have J : ∀ v : UInt64, zf v → v = p_nb (lK A) p → (p_gd (lK A) p ↔ (zV v).natAbs ≤ 2 ^ 1174) → wX3_set_J103 s.amountOf (Int32.ofNat i) p1 0 K v := by
    intro v hf hv2 hgd
    unfold wX3_set_J103
    rw [z_dgt hf z_c100.1, z_dlt hf z_cn100.1, z_c100', z_cn100.2, i2]
    generalize (2 ^ 1174 : Nat) = M at hgd
    exact ⟨fun c => hb (fun q => by have := hgd.mp q; omega), fun c => ⟨fun d => ⟨i1, fun a ha => hg (hgd.mpr (by omega)) a (by rw [ha, hv2])⟩, fun d => hb (fun q => by have := hgd.mp q; omega)⟩⟩
  rw [w_cl (by omega)]
  refine ⟨fun c => ?_, fun c => ?_⟩
  · have hk := hw.mp c
    have hgd : p_gd (lK A) p ↔ (ff p.toInt32.toUInt32 ∧ (fV p.toInt32.toUInt32).natAbs ≤ 2 ^ 1174) := by rw [hk]; exact Iff.rfl
    have hnb : FP.f2d p.toInt32.toUInt32 = p_nb (lK A) p := by rw [hk]; rfl
    rw [w_fE32]
    refine ⟨fun d => zero.mpr (hb (fun q => d (hgd.mp q).1)), fun d => ⟨fun _ => ⟨hvi, ?_⟩, fun q => absurd q (by decide)⟩⟩
    rw [w_cl (by omega)]
    have d : ff p.toInt32.toUInt32 := Classical.byContradiction d
    obtain ⟨g1, g2, g3⟩ := z_f2d d
    refine ⟨fun _ => ⟨f_sni d, z_n64 g1, J _ g1 hnb ?_⟩, fun q => absurd c q⟩
    rw [g2, hgd]
    exact ⟨fun q => q.2, fun q => ⟨d, q⟩⟩
  · have hk : lK A = true := by
      cases h : lK A
      · exact absurd (hw.mpr h) c
      · rfl
    have hgd : p_gd (lK A) p ↔ (zf p.toUInt64 ∧ (zV p.toUInt64).natAbs ≤ 2 ^ 1174) := by rw [hk]; exact Iff.rfl
    have hnb : p.toUInt64 = p_nb (lK A) p := by rw [hk]; rfl
    rw [w_fE]
    refine ⟨fun d => zero.mpr (hb (fun q => d (hgd.mp q).1)), fun d => ⟨fun _ => ⟨hvi, ?_⟩, fun q => absurd q (by decide)⟩⟩
    rw [w_cl (by omega)]
    have d : zf p.toUInt64 := Classical.byContradiction d
    refine ⟨fun q => absurd q c, fun _ => ⟨z_snl d, J _ d hnb (hgd.trans ⟨fun q => q.2, fun q => ⟨d, q⟩⟩)⟩⟩
theorem p_amrow {s : LSt} {i : Nat} {A : Led} (hA : RLd s i A) {am' : Nat → UInt64} (h : ∀ k, k < lLn A → pVal (lK A) (am' k) = s.amountOf (60 * i + k) ∧ pOk (lK A) (am' k)) : RLd s i (A.1, lK A, lGc A, lLn A, lAc A, lDa A, lGi A, am') := ⟨hA.1, hA.2.1, hA.2.2.1, h, hA.2.2.2.2.1, hA.2.2.2.2.2.1, hA.2.2.2.2.2.2⟩
theorem p_c1 {ta : Nat → ClassId} {L : Nat} {xf : Nat → Int32} (hL : L ≤ 320) (v4 : Int32) (s : LSt) (hs : RR s) (h1 : 0 ≤ v4.toInt) (h2 : v4.toInt + 5 ≤ (L : Int)) : wL_1 (LSt.thrown s) (LSt.many s) (LSt.isWide s) (LSt.amountOf s) (LSt.accountOf s) (LSt.dayOf s) (LSt.given s) (LSt.givenOf s) (LSt.runs s) (LSt.runWide s) (LSt.runWay s) (LSt.runTotal s) (LSt.runSteps s) (LSt.lefts s) (LSt.rights s) (LSt.results s) (LSt.wide s) (LSt.dn s) (LSt.stepsAt s) (LSt.keeps s) (LSt.order s) (LSt.att s) (LSt.spareAmount s) (LSt.spareAccount s) (LSt.spareDay s) (LSt.cured s) (LSt.cureOf s) (LSt.shareOf s) (LSt.big s) (LSt.unitsOf s) (LSt.spare s) (LSt.halfFrom s) (LSt.halfMany s) (LSt.halfDone s) (LSt.halfTotal s) (LSt.isFar s) (LSt.of s) (LSt.cur s) (LSt.cs s) ta v4 xf L (LSt.cs s) (lst RR) := by
  have v1 := p_v (j := 1) hL h1 h2 (by decide)
  have v2 := p_v (j := 2) hL h1 h2 (by decide)
  have v3 := p_v (j := 3) hL h1 h2 (by decide)
  have v4' := p_v (j := 4) hL h1 h2 (by decide)
  unfold wL_1
  refine ⟨v1, v2, v3, v4', ?_⟩
  generalize xf (v4 + 1).toNatClampNeg = p0
  generalize xf (v4 + 2).toNatClampNeg = p1
  generalize xf (v4 + 3).toNatClampNeg = q1
  generalize xf (v4 + 4).toNatClampNeg = q2
  generalize ((jlshl q1.toInt64 32) ||| (q2.toInt64 &&& 4294967295)) = p
  unfold wX0_set bX1_set
  refine ⟨fun hin => ⟨fun A hc => ?_, fun hn => ?_⟩, fun hin => ?_⟩
  · obtain ⟨h12, e0⟩ := p_12 hin
    have hA := p_row hs h12 hc
    have hn := hA.1
    refine ⟨hin, p_cgs hs h12 hc, ?_⟩
    by_cases hv : vp_in p1 (lLn A)
    · obtain ⟨c1, c2⟩ := p_ofn hv (by omega)
      refine p_putX (by omega) hv (fun gd am' ham => ⟨fun q => absurd q (by decide), fun _ y hy => ⟨p_z1, fun f hf => ⟨v1, v2, v3, v4', ?_⟩⟩⟩) (fun gd am' ham => ⟨fun _ y hy => ⟨p_z1, fun f hf => ⟨v1, v2, v3, v4', ?_⟩⟩, fun q => absurd rfl q⟩)
      · refine p_fault hs (fun _ _ _ _ => ⟨fun _ => ⟨hin, ?_⟩, fun h => absurd rfl h⟩) (fun _ q => by rw [hc] at q; cases q) (fun q => absurd hin q) (fun A' hc' _ q => by rw [hc] at hc'; cases hc'; exact absurd hv q)
        rw [e0]
        refine p_set3 h12 hA hv (fun _ a3 ha3 => p_okk rfl rfl p_z1 ((p_upd0 hf).trans hy) (Or.inl ?_)) (fun q => absurd gd q)
        rw [w_cl (by omega)]
        refine p_led (B := (A.1, lK A, lGc A, lLn A, lAc A, lDa A, lGi A, am')) hs h12 hc rfl rfl ⟨hA.1, hA.2.1, hA.2.2.1, fun k hk => ?_, hA.2.2.2.2.1, hA.2.2.2.2.2.1, hA.2.2.2.2.2.2⟩ (fun j hj hne => ⟨rfl, fun C hC => ?_⟩) rfl rfl rfl rfl rfl (fun _ _ h => h) rfl rfl rfl rfl rfl
        · have hold := hA.2.2.2.1 k hk
          by_cases ek : k = p1.toNatClampNeg
          · obtain ⟨e1, e2⟩ := (ham k).2 ek
            refine ⟨e1.trans ?_, e2⟩
            show _ = a3 (60 * p0.toNatClampNeg + k)
            rw [ha3, ek]
            exact (if_pos rfl).symm
          · obtain ⟨e1, e2⟩ := (ham k).1 ek
            refine ⟨e1.trans ?_, e2 hold.2⟩
            show _ = a3 (60 * p0.toNatClampNeg + k)
            rw [ha3, hold.1]
            exact (if_neg (by omega)).symm
        · refine p_fr (s := s) rfl rfl (fun l hl => ?_) (fun _ _ => rfl) (fun _ _ => rfl) rfl (fun _ _ => rfl) hC
          show a3 (60 * j + l) = s.amountOf (60 * j + l)
          rw [ha3]
          exact if_neg (fun e => hne (p_rows hl (show p1.toNatClampNeg < 60 by omega) e).1)
      · refine p_fault hs (fun _ _ _ _ => ⟨fun _ => ⟨hin, ?_⟩, fun h => absurd rfl h⟩) (fun _ q => by rw [hc] at q; cases q) (fun q => absurd hin q) (fun A' hc' _ q => by rw [hc] at hc'; cases hc'; exact absurd hv q)
        rw [e0]
        refine p_set3 h12 hA hv (fun q => absurd q gd) (fun _ => p_okk rfl rfl p_z1 ((p_upd0 hf).trans hy) (Or.inl ?_))
        rw [w_cl (by omega)]
        refine p_led (B := (A.1, lK A, lGc A, lLn A, lAc A, lDa A, lGi A, am')) hs h12 hc rfl rfl ?_ (fun j _ _ => ⟨rfl, fun _ h => h⟩) rfl rfl rfl rfl rfl (fun _ _ h => h) rfl rfl rfl rfl rfl
        exact p_amrow (s := s) hA (fun k hk => ⟨(ham k).1.trans (hA.2.2.2.1 k hk).1, (ham k).2 (hA.2.2.2.1 k hk).2⟩)
    · have leaf : ∀ (am' : Nat → UInt64), (∀ k, k < lLn A → pVal (lK A) (am' k) = s.amountOf (60 * p0.toNatClampNeg + k) ∧ pOk (lK A) (am' k)) → wX3_set p0 p1 p s.thrown s.many s.isWide s.amountOf (fun b t a => ((t = 2 → ((¬ (2 : Int32) = 0 → lst RR t s.many s.isWide a s.accountOf s.dayOf s.given s.givenOf s.runs s.runWide s.runWay s.runTotal s.runSteps s.lefts s.rights s.results s.wide s.dn s.stepsAt s.keeps s.order s.att s.spareAmount s.spareAccount s.spareDay s.cured s.cureOf s.shareOf s.big s.unitsOf s.spare s.halfFrom s.halfMany s.halfDone s.halfTotal s.isFar s.of s.cur ((upO (cS s.cs) p0.toNatClampNeg (some (A.1, lK A, (lGc A), lLn A, (lAc A), (lDa A), (lGi A), am'))), (cT s.cs), (cG s.cs), ((cLm s.cs), (cLz s.cs), (cLa s.cs)), (cW1 s.cs), (cW2 s.cs), (cW3 s.cs), (cSh s.cs))) ∧ ((2 : Int32) = 0 → (vp_in (0 : Int32) 1 ∧ ((s.of (0 : Int32).toNatClampNeg = b.toInt64 → lst RR t s.many s.isWide a s.accountOf s.dayOf s.given s.givenOf s.runs s.runWide s.runWay s.runTotal s.runSteps s.lefts s.rights s.results s.wide s.dn s.stepsAt s.keeps s.order s.att s.spareAmount s.spareAccount s.spareDay s.cured s.cureOf s.shareOf s.big s.unitsOf s.spare s.halfFrom s.halfMany s.halfDone s.halfTotal s.isFar s.of s.cur ((upO (cS s.cs) p0.toNatClampNeg (some (A.1, lK A, (lGc A), lLn A, (lAc A), (lDa A), (lGi A), am'))), (cT s.cs), (cG s.cs), ((cLm s.cs), (cLz s.cs), (cLa s.cs)), (cW1 s.cs), (cW2 s.cs), (cW3 s.cs), (cSh s.cs))) ∧ (¬ s.of (0 : Int32).toNatClampNeg = b.toInt64 → False)))))) ∧ (¬ t = 2 → False))) := by
        intro am' ham
        refine p_fault hs (fun A' hc' _ q => by rw [hc] at hc'; cases hc'; exact absurd q hv) (fun _ q => by rw [hc] at q; cases q) (fun q => absurd hin q) (fun _ _ _ _ => ⟨fun h => absurd h (by decide), fun _ => p_ern rfl (by decide) (Or.inl ?_)⟩)
        refine p_led (B := (A.1, lK A, lGc A, lLn A, lAc A, lDa A, lGi A, am')) hs h12 hc rfl rfl ?_ (fun j _ _ => ⟨rfl, fun _ h => h⟩) rfl rfl rfl rfl rfl (fun _ _ h => h) rfl rfl rfl rfl rfl
        exact p_amrow (s := s) hA ham
      cases hk : lK A
      · refine ⟨by omega, fun _ => Or.inr ⟨rfl, v1, v2, v3, v4', ?_⟩, fun q => absurd q hv⟩
        have := leaf (amW (amN (lAm A))) (fun k hk2 => by
          have hold := hA.2.2.2.1 k hk2
          rw [hk] at hold ⊢
          refine ⟨?_, ?_⟩
          · show FP.f2d (amW (amN (lAm A)) k).toUInt32 = _
            rw [p_amW]; exact hold.1
          · show (amW (amN (lAm A)) k).toUInt32 &&& 2147483647 ≤ 1904214016
            rw [p_amW]; exact hold.2)
        rw [hk] at this
        exact this
      · refine ⟨by omega, fun _ => Or.inr ⟨rfl, v1, v2, v3, v4', ?_⟩, fun q => absurd q hv⟩
        have := leaf (lAm A) hA.2.2.2.1
        rw [hk] at this
        exact this
  · obtain ⟨h12, e0⟩ := p_12 hin
    refine ⟨fun h => absurd hin h, fun _ => ⟨p_cgn hs h12 hn, Or.inl ⟨rfl, v1, v2, v3, v4', ?_⟩⟩⟩
    exact p_fault hs (fun _ q _ _ => by rw [hn] at q; cases q) (fun _ _ => ⟨fun h => absurd h (by decide), fun _ => p_ern rfl (by decide) (Or.inl hs)⟩) (fun q => absurd hin q) (fun _ q _ _ => by rw [hn] at q; cases q)
  · refine ⟨fun _ => Or.inr ⟨rfl, v1, v2, v3, v4', ?_⟩, fun h => absurd h hin⟩
    exact p_fault hs (fun _ _ q _ => absurd q hin) (fun q _ => absurd q hin) (fun _ => ⟨fun h => absurd h (by decide), fun _ => p_ern rfl (by decide) (Or.inl hs)⟩) (fun _ _ q _ => absurd q hin)
