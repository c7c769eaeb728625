/-! the plain law: cured, ledger. By hand (gen/232.plainp.src.txt) -/
/-- a set without its k least members; its least member -/
def p_dr (l : Nat) : Nat → Nat
  | 0 => l
  | k + 1 => p_dr (l &&& (l - 1)) k
def p_lb (d : Nat) : Nat := ((List.range 10).filter (fun j => d.testBit j)).headD 0
theorem p_dr1 : ∀ l : Fin 1024, l.val ≠ 0 → (Int32.ofNat l.val &&& (Int32.ofNat l.val - 1)) = Int32.ofNat (l.val &&& (l.val - 1)) ∧ l.val &&& (l.val - 1) < l.val := by decide +kernel
theorem p_lb1 : ∀ d : Fin 1024, d.val ≠ 0 → p_lb d.val < 10 ∧ d.val / 2 ^ p_lb d.val % 2 = 1 ∧ ∀ j, j < p_lb d.val → d.val / 2 ^ j % 2 = 0 := by decide +kernel
theorem p_cu1 : ∀ c : Fin 1024, ∀ k : Fin 11, ((List.range 10).filter (fun j => c.val.testBit j))[k.val]? = (if p_dr c.val k.val = 0 then none else some (p_lb (p_dr c.val k.val))) := by decide +kernel
theorem p_dr0 (k : Nat) : p_dr 0 k = 0 := by
  induction k with
  | zero => rfl
  | succ k ih => exact ih
theorem p_dr_add (l j k : Nat) : p_dr l (j + k) = p_dr (p_dr l j) k := by
  induction j generalizing l with
  | zero => rw [Nat.zero_add]; rfl
  | succ j ih =>
    rw [show j + 1 + k = (j + k) + 1 by omega]
    exact ih (l &&& (l - 1))
theorem p_dr_le (l k : Nat) : p_dr l k ≤ l := by
  induction k generalizing l with
  | zero => exact Nat.le_refl _
  | succ k ih => exact Nat.le_trans (ih _) Nat.and_le_left
theorem p_cu {c : Nat} (hc : c < 1024) (k : Nat) : ((List.range 10).filter (fun j => c.testBit j))[k]? = (if p_dr c k = 0 then none else some (p_lb (p_dr c k))) := by
  by_cases h : k < 11
  · exact p_cu1 ⟨c, hc⟩ ⟨k, h⟩
  · have h10 := p_cu1 ⟨c, hc⟩ ⟨10, by decide⟩
    have hl : ((List.range 10).filter (fun j => c.testBit j)).length ≤ 10 := by
      refine Nat.le_trans (List.length_filter_le _ _) ?_
      rw [List.length_range]
      exact Nat.le_refl _
    rw [List.getElem?_eq_none_iff.mpr (by show _ ≤ 10; exact hl)] at h10
    have h0 : p_dr c 10 = 0 := by
      by_cases q : p_dr c 10 = 0
      · exact q
      · have h10 : none = (if p_dr c 10 = 0 then none else some (p_lb (p_dr c 10))) := h10
        rw [if_neg q] at h10
        cases h10
    have : p_dr c k = 0 := by
      rw [show k = 10 + (k - 10) by omega, p_dr_add, h0, p_dr0]
    rw [this, if_pos rfl]
    exact List.getElem?_eq_none_iff.mpr (by omega)
theorem p_cured_L {p0 : Int32} {X : Int32 → Int32 → Prop} : ∀ b l : Nat, l ≤ b → l < 1024 → ∀ i : Nat, i + l ≤ 2048 → (∀ v, X (Int32.ofNat (p_dr l (p0.toInt - i).toNat)) v) → wX1_cured_L7 p0 X (b + 1) (Int32.ofNat l) (Int32.ofNat i) := by
  intro b
  induction b with
  | zero =>
    intro l hl _ i hi hX
    have e : l = 0 := by omega
    subst e
    rw [p_dr0] at hX
    exact ⟨fun _ => hX _, fun _ => ⟨fun _ => hX _, fun q => absurd rfl q⟩⟩
  | succ b ih =>
    intro l hl hl2 i hi hX
    refine ⟨fun c => ?_, fun c => ⟨fun q => ?_, fun q x hx y hy => ?_⟩⟩
    · rw [Int32.le_iff_toInt_le, nI_int (by omega)] at c
      rw [show (p0.toInt - i).toNat = 0 by omega] at hX
      exact hX _
    · have : l = 0 := (w_eqI (b := 0) (by omega) (by omega)).mp q
      subst this
      rw [p_dr0] at hX
      exact hX _
    · have hne : l ≠ 0 := fun h => q (by rw [h]; rfl)
      obtain ⟨e1, e2⟩ := p_dr1 ⟨l, hl2⟩ hne
      have e1 : (Int32.ofNat l &&& (Int32.ofNat l - 1)) = Int32.ofNat (l &&& (l - 1)) := e1
      have e2 : l &&& (l - 1) < l := e2
      rw [Int32.le_iff_toInt_le, nI_int (by omega)] at c
      rw [hx, hy, e1, w_suc]
      refine ih (l &&& (l - 1)) (by omega) (by omega) (i + 1) (by omega) ?_
      rw [show (p0.toInt - i).toNat = (p0.toInt - ((i + 1 : Nat) : Int)).toNat + 1 by omega] at hX
      exact hX
theorem p_lb_L {d : Nat} (h0 : d ≠ 0) (hd : d < 1024) {X : Int32 → Prop} (hX : X (Int32.ofNat (p_lb d))) : ∀ m k, k + m = p_lb d → wX1_cured_L40 (Int32.ofNat d) X (m + 1) (Int32.ofNat k) := by
  obtain ⟨a1, a2, a3⟩ := p_lb1 ⟨d, hd⟩ h0
  have a1 : p_lb d < 10 := a1
  have a2 : d / 2 ^ p_lb d % 2 = 1 := a2
  have bit : ∀ k, k < 32 → ((jishr (Int32.ofNat d) (Int32.ofNat k)) &&& 1).toInt = ((d / 2 ^ k % 2 : Nat) : Int) := by
    intro k hk
    rw [w_bits _ hk, show z_w (Int32.ofNat d) = (d : Int) by unfold z_w; rw [nI_int (by omega)]; omega, Int.natCast_emod, Int.natCast_ediv, w_p2]
    rfl
  intro m
  induction m with
  | zero =>
    intro k hk
    have e : k = p_lb d := by omega
    have hb := bit k (by omega)
    rw [e, a2] at hb
    subst e
    refine ⟨fun _ => hX, fun c => ?_⟩
    rw [c] at hb
    exact absurd hb (by decide)
  | succ m ih =>
    intro k hk
    have hb := bit k (by omega)
    have a3 : d / 2 ^ k % 2 = 0 := a3 k (by show k < p_lb d; omega)
    rw [a3] at hb
    refine ⟨fun c => absurd (by rw [← Int32.toInt_inj, hb]; rfl) c, fun _ x hx => ?_⟩
    rw [hx, w_suc]
    exact ih (k + 1) (by omega)
theorem p_c28 {ta : Nat → ClassId} {L : Nat} {xf : Nat → Int32} (hL : L ≤ 320) (v4 : Int32) (s : LSt) (hs : RR s) (h1 : 0 ≤ v4.toInt) (h2 : v4.toInt + 5 ≤ (L : Int)) : wL_28 (LSt.thrown s) (LSt.many s) (LSt.isWide s) (LSt.amountOf s) (LSt.accountOf s) (LSt.dayOf s) (LSt.given s) (LSt.givenOf s) (LSt.runs s) (LSt.runWide s) (LSt.runWay s) (LSt.runTotal s) (LSt.runSteps s) (LSt.lefts s) (LSt.rights s) (LSt.results s) (LSt.wide s) (LSt.dn s) (LSt.stepsAt s) (LSt.keeps s) (LSt.order s) (LSt.att s) (LSt.spareAmount s) (LSt.spareAccount s) (LSt.spareDay s) (LSt.cured s) (LSt.cureOf s) (LSt.shareOf s) (LSt.big s) (LSt.unitsOf s) (LSt.spare s) (LSt.halfFrom s) (LSt.halfMany s) (LSt.halfDone s) (LSt.halfTotal s) (LSt.isFar s) (LSt.of s) (LSt.cur s) (LSt.cs s) ta v4 xf L (LSt.cs s) (lst RR) := by
  have v1 := p_v (j := 1) hL h1 h2 (by decide)
  unfold wL_28
  refine ⟨v1, ?_⟩
  generalize xf (v4 + 1).toNatClampNeg = p0
  obtain ⟨hA, hG, hR, hT, ⟨hc1, hc2, hc3⟩, hS⟩ := id hs
  obtain ⟨cc, hcc⟩ : ∃ cc : Nat, s.cur.toInt = (cc : Int) := ⟨s.cur.toInt.toNat, by omega⟩
  have hcur : s.cur = Int32.ofNat cc := by rw [← Int32.toInt_inj, nI_int (by omega), hcc]
  have hlt : cc < 1024 := by omega
  have hk := p_cu hlt p0.toInt.toNat
  have h3 : ∀ K : Int32 → Int32 → Prop, (0 ≤ p0.toInt → ∀ v, ((List.range 10).filter (fun j => cc.testBit j))[p0.toInt.toNat]? = some v → K (Int32.ofNat v) 0) → ((p0.toInt < 0 ∨ ((List.range 10).filter (fun j => cc.testBit j))[p0.toInt.toNat]? = none) → K (-1) 0) → wX3_cured p0 s.thrown s.cured s.cureOf K := by
    intro K k1 k0
    have hlen : ((List.range 10).filter (fun j => cc.testBit j)).length ≤ 10 := by
      refine Nat.le_trans (List.length_filter_le _ _) ?_
      rw [List.length_range]
      exact Nat.le_refl _
    rcases hc3 with ⟨e1, e2, e3⟩ | ⟨e1, e2⟩
    · have ec : cc = 0 := by
        rw [e1] at hcc
        have : (0 : Int32).toInt = 0 := rfl
        omega
      have em : (s.cured - 1).toInt64.toInt = s.cured.toInt - 1 := by
        rw [Int32.toInt_toInt64, w_sub32 (by show _ ≤ _ - (1 : Int); omega) (by show _ - (1 : Int) < _; omega)]
        rfl
      refine p_in3 (fun a b => ?_) (fun _ => ⟨fun _ => k0 (Or.inr ?_), fun q => absurd rfl q⟩)
      · rw [em] at b
        have a : 0 ≤ p0.toInt := a
        omega
      · rw [ec]
        rfl
    · rw [hcc] at e1 e2
      have e1 : s.cured = Int32.ofNat ((List.range 10).filter (fun j => cc.testBit j)).length := e1
      have em : (s.cured - 1).toInt64.toInt = (((List.range 10).filter (fun j => cc.testBit j)).length : Int) - 1 := by rw [e1]; exact p_pred (by omega)
      refine p_in3 (fun a b => ⟨fun q => absurd q (by decide), fun _ => ?_⟩) (fun q => ⟨fun _ => k0 ?_, fun q => absurd rfl q⟩)
      · rw [em] at b
        have a : 0 ≤ p0.toInt := a
        have hl : p0.toInt.toNat < ((List.range 10).filter (fun j => cc.testBit j)).length := by omega
        refine ⟨vp_in_iff.mpr ⟨a, by omega⟩, ?_⟩
        have hg := List.getElem?_eq_getElem hl
        have := e2 p0.toInt.toNat _ hg
        rw [show p0.toNatClampNeg = p0.toInt.toNat from rfl, this]
        exact k1 a _ hg
      · rw [em, show (0 : Int64).toInt = 0 from rfl] at q
        rcases q with q | q
        · exact Or.inl q
        · by_cases a : p0.toInt < 0
          · exact Or.inl a
          · exact Or.inr (List.getElem?_eq_none_iff.mpr (by omega))
  unfold bX1_cured
  rw [hcur]
  refine ⟨cc + 1, p_cured_L (X := fun v2 _ => wX1_cured_J28 p0 _ v2) cc cc (Nat.le_refl _) hlt 0 (by omega) (fun _ => ?_)⟩
  rw [show (p0.toInt - ((0 : Nat) : Int)).toNat = p0.toInt.toNat by omega]
  have hdl := p_dr_le cc p0.toInt.toNat
  unfold wX1_cured_J28
  refine ⟨fun c => ⟨v1, h3 _ (fun q => ?_) (fun _ => ⟨fun _ => Or.inl ?_, fun q => q rfl⟩)⟩, fun c => ⟨fun d => ?_, fun d => ⟨v1, h3 _ (fun _ v hv => ?_) (fun _ => ⟨fun _ => Or.inl ?_, fun q => q rfl⟩)⟩⟩⟩
  · rw [Int32.lt_iff_toInt_lt, Int32.toInt_zero] at c
    omega
  · rw [← hcur]; exact hs
  · have hne : p_dr cc p0.toInt.toNat ≠ 0 := fun q => d (by rw [q]; rfl)
    refine ⟨p_lb (p_dr cc p0.toInt.toNat) + 1, p_lb_L hne (by omega) ⟨v1, h3 _ (fun _ v hv => ?_) (fun q => ?_)⟩ (p_lb (p_dr cc p0.toInt.toNat)) 0 (by omega)⟩
    · rw [hk, if_neg hne] at hv
      cases hv
      refine ⟨fun _ => Or.inl ?_, fun q => q rfl⟩
      rw [← hcur]; exact hs
    · rw [hk, if_neg hne] at q
      rw [Int32.lt_iff_toInt_lt, Int32.toInt_zero] at c
      rcases q with q | q
      · omega
      · cases q
  · have h0 : p_dr cc p0.toInt.toNat = 0 := (w_eqI (b := 0) (by omega) (by omega)).mp d
    rw [hk, if_pos h0] at hv
    cases hv
  · rw [← hcur]; exact hs
