/-! the plain law: give, cured. By hand (gen/230.plaino.src.txt) -/
theorem p_pigeon : ∀ (n g : Nat) (f : Nat → Nat), (∀ k, k < g → f k < n) → (∀ j k, j < k → k < g → f j ≠ f k) → g ≤ n := by
  intro n
  induction n with
  | zero =>
    intro g f h _
    rcases Nat.eq_zero_or_pos g with q | q
    · omega
    · have := h 0 q; omega
  | succ n ih =>
    intro g f h hd
    by_cases c : ∃ k, k < g ∧ f k = n
    · obtain ⟨k, hk, e⟩ := c
      have := ih (g - 1) (fun j => if j = k then f (g - 1) else f j) (fun j hj => by
        by_cases q : j = k
        · rw [if_pos q]
          have := h (g - 1) (by omega)
          have := hd k (g - 1) (by omega) (by omega)
          omega
        · rw [if_neg q]
          have := h j (by omega)
          rcases Nat.lt_or_gt_of_ne q with q2 | q2
          · have := hd j k q2 hk; omega
          · have := hd k j q2 (by omega); omega) (fun j l hjl hl => by
        by_cases q : j = k
        · rw [if_pos q, if_neg (by omega)]
          exact fun e => hd l (g - 1) (by omega) (by omega) e.symm
        · by_cases q2 : l = k
          · rw [if_neg q, if_pos q2]
            exact hd j (g - 1) (by omega) (by omega)
          · rw [if_neg q, if_neg q2]
            exact hd j l hjl (by omega))
      omega
    · have := ih g f (fun k hk => by
        have := h k hk
        have : f k ≠ n := fun q => c ⟨k, hk, q⟩
        omega) hd
      omega
theorem p_nar60 : ∀ n : Fin 60, vp_nar .byte (Int32.ofNat n.val).toInt8.toInt32 = Int32.ofNat n.val := by decide +kernel
theorem p_give_L {giv : Nat → Int32} {g ln : Nat} (hg : g ≤ ln) (hln : ln ≤ 60) {p1 : Int32} {X Y : Int32 → Prop} (hX : (∃ k, k < g ∧ giv k = p1) → ∀ v, X v) (hY : (¬ ∃ k, k < g ∧ giv k = p1) → ∀ v, Y v) : ∀ m k, k + m = g → (∀ j, j < k → giv j ≠ p1) → wX4_give_L2 (Int32.ofNat g) ln giv p1 X Y (m + 1) (Int32.ofNat k) := by
  intro m
  induction m with
  | zero =>
    intro k hk h
    have e : k = g := by omega
    subst e
    exact ⟨fun _ => hY (fun q => by obtain ⟨j, a, b⟩ := q; exact h j a b) _, fun c => absurd (Int32.le_refl _) c⟩
  | succ m ih =>
    intro k hk h
    unfold wX4_give_L2
    rw [w_cl (by omega)]
    refine ⟨fun c => absurd c (w_nleO (by omega) (by omega) (by omega)), fun _ => ⟨w_in (by omega) (by omega), fun c x hx => ?_, fun c => hX ⟨k, by omega, c⟩ _⟩⟩
    rw [hx, w_suc]
    refine ih (k + 1) (by omega) (fun j hj => ?_)
    by_cases q : j = k
    · rw [q]; exact c
    · exact h j (by omega)
theorem p_give3_L {s : LSt} {i : Nat} (hi : i < 12) {g : Nat} (hg : g ≤ 60) (hgv : s.given i = Int32.ofNat g) {p1 : Int32} {X Y : Int32 → Prop} (hX : (∃ k, k < g ∧ s.givenOf (60 * i + k) = p1) → ∀ v, X v) (hY : (¬ ∃ k, k < g ∧ s.givenOf (60 * i + k) = p1) → ∀ v, Y v) : ∀ m k, k + m = g → (∀ j, j < k → s.givenOf (60 * i + j) ≠ p1) → wX3_give_L21 s.given s.givenOf (Int32.ofNat i) p1 X Y (m + 1) (Int32.ofNat k) := by
  intro m
  induction m with
  | zero =>
    intro k hk h
    have e : k = g := by omega
    subst e
    unfold wX3_give_L21
    rw [w_cl (by omega), hgv]
    exact ⟨w_in hi (by omega), fun _ => hY (fun q => by obtain ⟨j, a, b⟩ := q; exact h j a b) _, fun c => absurd (Int32.le_refl _) c⟩
  | succ m ih =>
    intro k hk h
    obtain ⟨i1, i2⟩ := p_60 hi (show k < 60 by omega)
    unfold wX3_give_L21
    rw [w_cl (by omega), hgv, i2]
    refine ⟨w_in hi (by omega), fun c => absurd c (w_nleO (by omega) (by omega) (by omega)), fun _ => ⟨i1, fun c x hx => ?_, fun c => hX ⟨k, by omega, c⟩ _⟩⟩
    rw [hx, w_suc]
    refine ih (k + 1) (by omega) (fun j hj => ?_)
    by_cases q : j = k
    · rw [q]; exact c
    · exact h j (by omega)
theorem p_c12 {ta : Nat → ClassId} {L : Nat} {xf : Nat → Int32} (hL : L ≤ 320) (v4 : Int32) (s : LSt) (hs : RR s) (h1 : 0 ≤ v4.toInt) (h2 : v4.toInt + 5 ≤ (L : Int)) : wL_12 (LSt.thrown s) (LSt.many s) (LSt.isWide s) (LSt.amountOf s) (LSt.accountOf s) (LSt.dayOf s) (LSt.given s) (LSt.givenOf s) (LSt.runs s) (LSt.runWide s) (LSt.runWay s) (LSt.runTotal s) (LSt.runSteps s) (LSt.lefts s) (LSt.rights s) (LSt.results s) (LSt.wide s) (LSt.dn s) (LSt.stepsAt s) (LSt.keeps s) (LSt.order s) (LSt.att s) (LSt.spareAmount s) (LSt.spareAccount s) (LSt.spareDay s) (LSt.cured s) (LSt.cureOf s) (LSt.shareOf s) (LSt.big s) (LSt.unitsOf s) (LSt.spare s) (LSt.halfFrom s) (LSt.halfMany s) (LSt.halfDone s) (LSt.halfTotal s) (LSt.isFar s) (LSt.of s) (LSt.cur s) (LSt.cs s) ta v4 xf L (LSt.cs s) (lst RR) := by
  have v1 := p_v (j := 1) hL h1 h2 (by decide)
  have v2 := p_v (j := 2) hL h1 h2 (by decide)
  unfold wL_12
  refine ⟨v1, v2, ?_⟩
  generalize xf (v4 + 1).toNatClampNeg = p0
  generalize xf (v4 + 2).toNatClampNeg = p1
  unfold wX0_give bX1_give
  refine ⟨fun hin => ⟨fun A hc => ?_, fun hn => ?_⟩, fun hin => ?_⟩
  · obtain ⟨h12, e0⟩ := p_12 hin
    have hA := p_row hs h12 hc
    obtain ⟨l1, l2, l3, l4, l5, l6, l7, l8, l9, l10⟩ := id hA
    obtain ⟨g, hg⟩ : ∃ g : Nat, (lGc A).toInt = (g : Int) := ⟨(lGc A).toInt.toNat, by omega⟩
    have hgc : lGc A = Int32.ofNat g := by rw [← Int32.toInt_inj, nI_int (by omega), hg]
    have hgv : s.given p0.toNatClampNeg = Int32.ofNat g := by rw [← l7, hgc]
    refine ⟨hin, p_cgs hs h12 hc, p_atX hA (fun hv => ?_) (fun hv => Or.inr ⟨rfl, v1, v2, ?_⟩)⟩
    · obtain ⟨c1, c2⟩ := p_ofn hv (by omega)
      have eqv : (∃ k, k < g ∧ lGi A k = p1) ↔ (∃ k, k < g ∧ s.givenOf (60 * p0.toNatClampNeg + k) = p1) := by
        constructor
        · rintro ⟨k, a, b⟩; exact ⟨k, a, by rw [← (l10 k (by omega)).1]; exact b⟩
        · rintro ⟨k, a, b⟩; exact ⟨k, a, by rw [(l10 k (by omega)).1]; exact b⟩
      refine ⟨g + 1, ?_⟩
      rw [hgc]
      refine p_give_L (g := g) (by omega) l1 (fun hex v => ?_) (fun hnex v x7 h7 => ?_) g 0 (by omega) (fun j hj => by omega)
      · refine ⟨fun _ y hy => ⟨p_z1, fun f hf => ⟨v1, v2, ?_⟩⟩, fun q => absurd rfl q⟩
        refine p_fault hs (fun _ _ _ _ => ⟨fun _ => ⟨g + 1, ?_⟩, fun h => absurd rfl h⟩) (fun _ q => by rw [hc] at q; cases q) (fun q => absurd hin q) (fun A' hc' _ q => by rw [hc] at hc'; cases hc'; exact absurd hv q)
        rw [e0]
        refine p_give3_L h12 (by omega) hgv (fun _ v => p_okk rfl rfl p_z1 ((p_upd0 hf).trans hy) (Or.inl ?_)) (fun q => absurd (eqv.mp hex) q) g 0 (by omega) (fun j hj => by omega)
        rw [w_cl (by omega)]
        refine p_led (B := (A.1, lK A, Int32.ofNat g, lLn A, lAc A, lDa A, lGi A, lAm A)) hs h12 hc rfl rfl ?_ (fun j _ _ => ⟨rfl, fun _ h => h⟩) rfl rfl rfl rfl rfl (fun _ _ h => h) rfl rfl rfl rfl rfl
        rw [← hgc]
        exact hA
      · have hlt : g < lLn A := by
          have hp := p_pigeon (lLn A) (g + 1) (fun k => if k < g then (lGi A k).toInt.toNat else p1.toInt.toNat) (fun k hk => by
            by_cases q : k < g
            · rw [if_pos q]
              have := (l10 k (by omega)).2
              omega
            · rw [if_neg q]
              have := vp_in_iff.mp hv
              omega) (fun j k hjk hk => by
            by_cases q : k < g
            · rw [if_pos q, if_pos (by omega)]
              have a := (l10 k (by omega)).2
              have b := (l10 j (by omega)).2
              have d := a.2.2 j hjk
              intro e
              apply d
              rw [← Int32.toInt_inj]
              omega
            · rw [if_neg q, if_pos (by omega)]
              have b := (l10 j (by omega)).2
              have a := vp_in_iff.mp hv
              intro e
              apply hnex
              refine ⟨j, by omega, ?_⟩
              rw [← Int32.toInt_inj]
              omega)
          omega
        have e7 : vp_nar .byte x7 = p1 := by
          rw [h7, c2]
          exact p_nar60 ⟨p1.toNatClampNeg, by omega⟩
        refine ⟨w_in hlt (by omega), fun f8 h8 x9 h9 => ⟨fun q => absurd q (by decide), fun _ y hy => ⟨p_z1, fun f hf => ⟨v1, v2, ?_⟩⟩⟩⟩
        rw [e7, w_cl (by omega)] at h8
        rw [w_suc] at h9
        subst h9
        refine p_fault hs (fun _ _ _ _ => ⟨fun _ => ⟨g + 1, ?_⟩, fun h => absurd rfl h⟩) (fun _ q => by rw [hc] at q; cases q) (fun q => absurd hin q) (fun A' hc' _ q => by rw [hc] at hc'; cases hc'; exact absurd hv q)
        rw [e0]
        refine p_give3_L h12 (by omega) hgv (fun q => absurd (eqv.mpr q) hnex) (fun _ v => ?_) g 0 (by omega) (fun j hj => by omega)
        obtain ⟨i1, i2⟩ := p_60 h12 (show g < 60 by omega)
        have hv12 : vp_in (Int32.ofNat p0.toNatClampNeg) 12 := w_in h12 (by omega)
        rw [w_cl (by omega), hgv, i2]
        refine ⟨hv12, i1, fun gf hgf => ⟨hv12, fun x9 h9 => ⟨hv12, fun gn hgn => ⟨hv12, ?_⟩⟩⟩⟩
        rw [w_suc] at h9
        subst h9
        have egn : gn p0.toNatClampNeg = Int32.ofNat (g + 1) := by rw [hgn]; exact if_pos rfl
        refine p_okk rfl rfl p_z1 (by rw [p_upd0 hf, hy, egn]) (Or.inl ?_)
        refine p_led (B := (A.1, lK A, Int32.ofNat (g + 1), lLn A, lAc A, lDa A, f8, lAm A)) hs h12 hc rfl rfl ⟨l1, l2, l3, l4, l5, l6, ?_, ?_, ?_, fun k hk => ?_⟩ (fun j hj hne => ⟨rfl, fun C hC => ?_⟩) rfl rfl rfl rfl rfl (fun _ _ h => h) rfl rfl rfl rfl rfl
        · exact egn.symm
        · show 0 ≤ (Int32.ofNat (g + 1)).toInt
          rw [nI_int (by omega)]; omega
        · show (Int32.ofNat (g + 1)).toInt ≤ _
          rw [nI_int (by omega)]
          show ((g + 1 : Nat) : Int) ≤ (lLn A : Int)
          omega
        · have hk : (k : Int) < (Int32.ofNat (g + 1)).toInt := hk
          rw [nI_int (by omega)] at hk
          show f8 k = gf (60 * p0.toNatClampNeg + k) ∧ 0 ≤ (f8 k).toInt ∧ (f8 k).toInt < (lLn A : Int) ∧ ∀ j, j < k → f8 j ≠ f8 k
          by_cases ek : k = g
          · have e8 : f8 k = p1 := by rw [h8]; exact if_pos ek
            have eg : gf (60 * p0.toNatClampNeg + k) = p1 := by rw [hgf]; exact if_pos (by omega)
            have a := vp_in_iff.mp hv
            refine ⟨by rw [e8, eg], by rw [e8]; exact a.1, by rw [e8]; exact a.2, fun j hj => ?_⟩
            have e8j : f8 j = lGi A j := by rw [h8]; exact if_neg (by omega)
            rw [e8, e8j]
            exact fun q => hnex ⟨j, by omega, q⟩
          · have e8 : f8 k = lGi A k := by rw [h8]; exact if_neg ek
            have eg : gf (60 * p0.toNatClampNeg + k) = s.givenOf (60 * p0.toNatClampNeg + k) := by rw [hgf]; exact if_neg (by omega)
            obtain ⟨a1, a2, a3, a4⟩ := l10 k (by omega)
            refine ⟨by rw [e8, eg]; exact a1, by rw [e8]; exact a2, by rw [e8]; exact a3, fun j hj => ?_⟩
            have e8j : f8 j = lGi A j := by rw [h8]; exact if_neg (by omega)
            rw [e8, e8j]
            exact a4 j hj
        · refine p_fr (s := s) rfl rfl (fun _ _ => rfl) (fun _ _ => rfl) (fun _ _ => rfl) ?_ (fun l hl => ?_) hC
          · show gn j = s.given j
            rw [hgn]
            exact if_neg hne
          · show gf (60 * j + l) = s.givenOf (60 * j + l)
            rw [hgf]
            exact if_neg (by omega)
    · refine p_fault hs (fun A' hc' _ q => by rw [hc] at hc'; cases hc'; exact absurd q hv) (fun _ q => by rw [hc] at q; cases q) (fun q => absurd hin q) (fun _ _ _ _ => ⟨fun h => absurd h (by decide), fun _ => p_ern rfl (by decide) (Or.inl ?_)⟩)
      exact p_led (B := A) hs h12 hc rfl rfl hA (fun j _ _ => ⟨rfl, fun _ h => h⟩) rfl rfl rfl rfl rfl (fun _ _ h => h) rfl rfl rfl rfl rfl
  · obtain ⟨h12, e0⟩ := p_12 hin
    refine ⟨fun h => absurd hin h, fun _ => ⟨p_cgn hs h12 hn, Or.inl ⟨rfl, v1, v2, ?_⟩⟩⟩
    exact p_fault hs (fun _ q _ _ => by rw [hn] at q; cases q) (fun _ _ => ⟨fun h => absurd h (by decide), fun _ => p_ern rfl (by decide) (Or.inl hs)⟩) (fun q => absurd hin q) (fun _ q _ _ => by rw [hn] at q; cases q)
  · refine ⟨fun _ => Or.inr ⟨rfl, v1, v2, ?_⟩, fun h => absurd h hin⟩
    exact p_fault hs (fun _ _ q _ => absurd q hin) (fun q _ => absurd q hin) (fun _ => ⟨fun h => absurd h (by decide), fun _ => p_ern rfl (by decide) (Or.inl hs)⟩) (fun _ _ q _ => absurd q hin)
