/-! the plain law: clear, total, share. By hand (gen/204.plainb.src.txt) -/
theorem p_clr {X : Int32 → (Nat → Option Nat) → Prop} {N cap : Nat} {lz : Int32} (e : lz = Int32.ofNat N) (hN : N ≤ 60) (hc : N ≤ cap) (hX : ∀ v f, X v f) : ∀ k : Nat, k ≤ N → ∀ f : Nat → Option Nat, wJ2_clear_L27 lz cap X (k + 1) (Int32.ofNat (N - k)) f := by
  subst e
  intro k
  induction k with
  | zero => intro _ f; exact ⟨fun _ => hX _ _, fun h => absurd (Int32.le_refl _) h⟩
  | succ k ih =>
    intro hk f
    refine ⟨fun _ => hX _ _, fun _ => ⟨vp_in_iff.mpr ?_, fun f' _ x hx => ?_⟩⟩
    · rw [il_ofNat (by omega)]; omega
    · rw [hx, show Int32.ofNat (N - (k + 1)) + 1 = Int32.ofNat (N - k) by rw [show N - k = (N - (k + 1)) + 1 by omega]; exact (nI_succ _).symm]
      exact ih (by omega) f'
theorem p_clear {X : Int32 → (Nat → Option Nat) → Prop} {N cap : Nat} {lz : Int32} (e : lz = Int32.ofNat N) (hN : N ≤ 60) (hc : N ≤ cap) (hX : ∀ v f, X v f) (f : Nat → Option Nat) : wJ2_clear_L27 lz cap X (N + 1) 0 f := by
  have h := p_clr e hN hc hX N (Nat.le_refl _) f
  rw [Nat.sub_self] at h
  exact h
theorem p_c21 {ta : Nat → ClassId} {L : Nat} {xf : Nat → Int32} (hL : L ≤ 320) (v4 : Int32) (s : LSt) (hs : RR s) (h1 : 0 ≤ v4.toInt) (h2 : v4.toInt + 5 ≤ (L : Int)) : wL_21 (LSt.thrown s) (LSt.many s) (LSt.isWide s) (LSt.amountOf s) (LSt.accountOf s) (LSt.dayOf s) (LSt.given s) (LSt.givenOf s) (LSt.runs s) (LSt.runWide s) (LSt.runWay s) (LSt.runTotal s) (LSt.runSteps s) (LSt.lefts s) (LSt.rights s) (LSt.results s) (LSt.wide s) (LSt.dn s) (LSt.stepsAt s) (LSt.keeps s) (LSt.order s) (LSt.att s) (LSt.spareAmount s) (LSt.spareAccount s) (LSt.spareDay s) (LSt.cured s) (LSt.cureOf s) (LSt.shareOf s) (LSt.big s) (LSt.unitsOf s) (LSt.spare s) (LSt.halfFrom s) (LSt.halfMany s) (LSt.halfDone s) (LSt.halfTotal s) (LSt.isFar s) (LSt.of s) (LSt.cur s) (LSt.cs s) ta (LSt.cs s) (lst RR) := by
  obtain ⟨hA, hG, ⟨hr, hlen, hlz, hls⟩, hT, hC, hS⟩ := id hs
  unfold wL_21 bX1_clear
  refine ⟨fun x hx => ?_, fun hn => ⟨fun hz => ?_, fun hz => ?_⟩⟩
  · rw [hx] at hls
    obtain ⟨c1, c2, c3⟩ := hls
    unfold wX1_clear wJ2_size wJ2_clear
    intro x1 e1
    refine ⟨(cT (LSt.cs s)).length + 1, p_clear hlz hlen c1 (fun v f => ?_) _⟩
    exact ⟨fun _ => Or.inr ⟨hA, hG, ⟨rfl, Nat.zero_le _, rfl, ⟨Nat.zero_le _, c2, fun r t h => by cases h⟩⟩, fun r t h => (by cases h), hC, hS⟩, fun h => h hr.symm⟩
  · unfold wX1_clear_F wJ2_size wJ2_clear_F
    intro x1 e1
    exact ⟨fun _ => Or.inr ⟨hA, hG, ⟨rfl, Nat.zero_le _, rfl, (by show (match cLa (LSt.cs s) with | none => ([] : List Tp) = [] | some x => _); rw [hn])⟩, fun r t h => (by cases h), hC, hS⟩, fun h => h (hr.trans hz).symm⟩
  · rw [hn] at hls
    rw [hlz, hls] at hz
    exact hz rfl
/-- a number's bits in the kind: both sides -/
theorem p_bits {w : Int32} {u : UInt64} (h : w = 0 → vf_n32 (FP.d2f u)) : ∃ r : Int64, (∀ K : Int64 → Prop, K r → wX8_bits u w K) ∧ ∀ K : Int64 → Prop, K r → wX3_bitsOf w u K := by
  by_cases e : w = 0
  · by_cases f : feq (FP.d2f u) (FP.d2f u)
    · exact ⟨(FP.d2f u).toInt32.toInt64, fun K k => ⟨fun _ => ⟨h e, ⟨fun _ => ⟨fun h => absurd rfl h, fun _ => k⟩, fun h => absurd f h⟩⟩, fun h => absurd e h⟩, fun K k => ⟨fun _ => ⟨h e, ⟨fun _ => ⟨fun h => absurd rfl h, fun _ => k⟩, fun h => absurd f h⟩⟩, fun h => absurd e h⟩⟩
    · exact ⟨(2143289344 : Int32).toInt64, fun K k => ⟨fun _ => ⟨h e, ⟨fun h => absurd h f, fun _ => ⟨fun _ => k, fun h => absurd h (by decide)⟩⟩⟩, fun h => absurd e h⟩, fun K k => ⟨fun _ => ⟨h e, ⟨fun h => absurd h f, fun _ => ⟨fun _ => k, fun h => absurd h (by decide)⟩⟩⟩, fun h => absurd e h⟩⟩
  · by_cases f : deq u u
    · exact ⟨u.toInt64, fun K k => ⟨fun h => absurd h e, fun _ => ⟨fun _ => ⟨fun h => absurd rfl h, fun _ => k⟩, fun h => absurd f h⟩⟩, fun K k => ⟨fun h => absurd h e, fun _ => ⟨fun _ => ⟨fun h => absurd rfl h, fun _ => k⟩, fun h => absurd f h⟩⟩⟩
    · exact ⟨9221120237041090560, fun K k => ⟨fun h => absurd h e, fun _ => ⟨fun h => absurd h f, fun _ => ⟨fun _ => k, fun h => absurd h (by decide)⟩⟩⟩, fun K k => ⟨fun h => absurd h e, fun _ => ⟨fun h => absurd h f, fun _ => ⟨fun _ => k, fun h => absurd h (by decide)⟩⟩⟩⟩
theorem p_c14 {ta : Nat → ClassId} {L : Nat} {xf : Nat → Int32} (hL : L ≤ 320) (v4 : Int32) (s : LSt) (hs : RR s) (h1 : 0 ≤ v4.toInt) (h2 : v4.toInt + 5 ≤ (L : Int)) : wL_14 (LSt.thrown s) (LSt.many s) (LSt.isWide s) (LSt.amountOf s) (LSt.accountOf s) (LSt.dayOf s) (LSt.given s) (LSt.givenOf s) (LSt.runs s) (LSt.runWide s) (LSt.runWay s) (LSt.runTotal s) (LSt.runSteps s) (LSt.lefts s) (LSt.rights s) (LSt.results s) (LSt.wide s) (LSt.dn s) (LSt.stepsAt s) (LSt.keeps s) (LSt.order s) (LSt.att s) (LSt.spareAmount s) (LSt.spareAccount s) (LSt.spareDay s) (LSt.cured s) (LSt.cureOf s) (LSt.shareOf s) (LSt.big s) (LSt.unitsOf s) (LSt.spare s) (LSt.halfFrom s) (LSt.halfMany s) (LSt.halfDone s) (LSt.halfTotal s) (LSt.isFar s) (LSt.of s) (LSt.cur s) (LSt.cs s) ta v4 xf L (LSt.cs s) (lst RR) := by
  obtain ⟨hA, hG, ⟨hr, hlen, hlz, hls⟩, hT, hC, hS⟩ := id hs
  unfold wL_14
  refine ⟨p_v hL h1 h2 (by decide), ?_⟩
  generalize xf (v4 + 1).toNatClampNeg = r
  have hv := p_v (j := 1) hL h1 h2 (by decide)
  unfold bX1_total
  refine ⟨fun hin => ⟨fun x hx => ⟨fun t ht => ?_, fun hn => ?_⟩, fun hn => ?_⟩, fun hin => ?_⟩
  · obtain ⟨i1, i2⟩ := vp_in_iff.mp hin
    rw [hx] at hls
    obtain ⟨c1, c2, c3⟩ := hls
    have h4 := hT _ _ ht
    obtain ⟨b, k1, k2⟩ := p_bits (w := tW t) (u := tTt t) (fun _ => (pB_32 h4.2.2.2.2.2.2.2.2.1).2)
    unfold wX1_total
    refine p_isRun hlz hlen (fun _ _ => ⟨fun h => absurd h (by decide), fun _ => p_get hlz hlen c1 i1 i2 ⟨c3 _ _ ht, p_get hlz hlen c1 i1 i2 ⟨c3 _ _ ht, k1 _ ⟨hv, ?_⟩⟩⟩⟩) (fun h => absurd ⟨i1, i2⟩ h)
    unfold wX3_total
    refine p_noRun (hr.trans hlz) hlen (fun _ _ => ⟨fun _ => ⟨vp_in_iff.mpr ⟨i1, by omega⟩, vp_in_iff.mpr ⟨i1, by omega⟩, ?_⟩, fun h => absurd rfl h⟩) (fun h => absurd ⟨i1, i2⟩ h)
    rw [← h4.2.1, ← h4.2.2.2.2.1]
    exact k2 _ ⟨fun _ => Or.inl hs, fun h => h rfl⟩
  · obtain ⟨i1, i2⟩ := vp_in_iff.mp hin
    rw [List.getElem?_eq_none_iff] at hn
    have : r.toNatClampNeg = r.toInt.toNat := rfl
    omega
  · obtain ⟨i1, i2⟩ := vp_in_iff.mp hin
    rw [hn] at hls
    rw [hls] at i2
    simp at i2
    omega
  · have hin2 : ¬ (0 ≤ r.toInt ∧ r.toInt < (cT (LSt.cs s)).length) := fun h => hin (vp_in_iff.mpr h)
    unfold wX1_total_N
    refine p_isRun hlz hlen (fun a b => absurd ⟨a, b⟩ hin2) (fun _ => ⟨fun _ => ⟨hv, ?_⟩, fun h => absurd rfl h⟩)
    unfold wX3_total
    exact p_noRun (hr.trans hlz) hlen (fun a b => absurd ⟨a, b⟩ hin2) (fun _ => ⟨fun h => absurd h (by decide), fun _ => ⟨fun _ => Or.inl hs, fun h => h rfl⟩⟩)
