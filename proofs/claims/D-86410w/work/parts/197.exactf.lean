/-! Exact numbers: to double and float; a double added: the component's. By hand -/
theorem z_near_pow {N p s : Nat} (h : N < 2 ^ (p + s)) : FP.Core.nearest N (2 ^ s) ≤ 2 ^ p := by
  refine z_near_le (Nat.two_pow_pos _) ?_
  rw [← Nat.pow_add]
  exact Nat.le_of_lt h
theorem z_sh_len {p m N n : Nat} (hp : 1 ≤ p) (h1 : N < 2 ^ n) (h2 : n = 0 ∨ 2 ^ (n - 1) ≤ N) : z_sh p m N = max m (n - p) := by
  unfold z_sh
  by_cases c : N = 0
  · subst c
    have hn : n = 0 := by
      rcases h2 with h | h
      · exact h
      · have := Nat.two_pow_pos (n - 1)
        omega
    rw [show Nat.log2 0 = 0 by decide]
    omega
  · have hn : 0 < n := by
      rcases Nat.eq_zero_or_pos n with h | h
      · subst h; omega
      · exact h
    have : N.log2 = n - 1 := by
      rw [Nat.log2_eq_iff c]
      exact ⟨by omega, by rw [show n - 1 + 1 = n by omega]; exact h1⟩
    omega
theorem q2_doubleOfSize {w : Nat → Int32} {N : Nat} (h : EX 40 0 w N) (hN : N < 2 ^ 1280) {K : UInt64 → Prop} (hK : ∀ d, zf d → zS d = false → zV d = ((z_rn 53 0 N : Nat) : Int) → K d) : wX2_doubleOfSize w K := by
  refine q2_length h hN (fun n hn h1 h2 => ?_)
  have hsh := z_sh_len (p := 53) (m := 0) (by decide) h1 h2
  have emax : ∀ K : Int32 → Prop, K (Int32.ofNat (n - 53)) → wJ13_max (0 : Int32) (Int32.ofNat n - (53 : Int32)) K := by
    intro K k
    have ei : (Int32.ofNat n - (53 : Int32)).toInt = (n : Int) - 53 := by
      rw [w_sub32 (by rw [nI_int (by omega)]; show _ ≤ _ - (53 : Int); omega) (by rw [nI_int (by omega)]; show _ - (53 : Int) < _; omega), nI_int (by omega)]
      rfl
    refine ⟨fun c => ?_, fun c => ?_⟩
    · rw [Int32.lt_iff_toInt_lt, ei, Int32.toInt_zero] at c
      have : Int32.ofNat n - (53 : Int32) = Int32.ofNat (n - 53) := by
        rw [← Int32.toInt_inj, ei, nI_int (by omega)]
        omega
      rw [this]
      exact k
    · rw [Int32.lt_iff_toInt_lt, ei, Int32.toInt_zero] at c
      have : (0 : Int32) = Int32.ofNat (n - 53) := by rw [show n - 53 = 0 by omega]; rfl
      rw [this]
      exact k
  refine emax _ ?_
  have hNs : N < 2 ^ (53 + (n - 53)) := Nat.lt_of_lt_of_le h1 (Nat.pow_le_pow_right (by decide) (by omega))
  refine q2_rounded h hN (Nat.lt_of_lt_of_le hNs (Nat.pow_le_pow_right (by decide) (by omega))) (by omega) (fun q hq => ?_)
  have hq1 : FP.Core.nearest N (2 ^ (n - 53)) ≤ 9007199254740992 := z_near_pow hNs
  have hq2 : n - 53 = 0 ∨ 4503599627370496 ≤ FP.Core.nearest N (2 ^ (n - 53)) := by
    by_cases c : n - 53 = 0
    · exact Or.inl c
    · refine Or.inr (z_near_ge (Nat.two_pow_pos _) ?_)
      rw [show 4503599627370496 = 2 ^ 52 from rfl, ← Nat.pow_add, show 52 + (n - 53) = n - 1 by omega]
      rcases h2 with h | h
      · omega
      · exact h
  have hrn : z_rn 53 0 N = FP.Core.nearest N (2 ^ (n - 53)) * 2 ^ (n - 53) := by
    unfold z_rn
    rw [hsh, show max 0 (n - 53) = n - 53 by omega]
  have fin : ∀ y : Int64, y.toInt = ((n - 53 : Nat) : Int) * 4503599627370496 + q.toInt → vn_snl2d y = false ∧ K y.toUInt64 := by
    intro y hy
    have hn : (y.toBitVec.toNat : Int) = y.toInt := w_nn64 (by omega)
    have hu : y.toUInt64.toNat = (n - 53) * 4503599627370496 + FP.Core.nearest N (2 ^ (n - 53)) := by
      show y.toBitVec.toNat = _
      omega
    obtain ⟨m1, m2, m3⟩ := z_mk (by omega) hq1 hq2 hu
    exact ⟨z_snl m1, hK _ m1 m2 (by rw [m3, hrn])⟩
  refine ⟨fun c => ?_, fun c => ?_⟩
  · have e1 : (jlshl (Int32.ofNat (n - 53)).toInt64 52).toInt = ((n - 53 : Nat) : Int) * 4503599627370496 := by
      have := w_lshl (y := (Int32.ofNat (n - 53)).toInt64) (k := 52) (by decide) (by rw [Int32.toInt_toInt64, nI_int (by omega)]; omega) (by rw [Int32.toInt_toInt64, nI_int (by omega)]; omega)
      rw [Int32.toInt_toInt64, nI_int (by omega)] at this
      exact this
    exact fin _ (by rw [w_add64 (by omega) (by omega), e1])
  · have c2 : n - 53 = 0 := by
      have := (w_eqI (b := 0) (by omega) (by omega)).mp c
      exact this
    exact fin q (by rw [c2]; omega)
theorem q2_floatOfSize {w : Nat → Int32} {N : Nat} (h : EX 40 0 w N) (hN : N < 2 ^ 1200) {K : UInt32 → Prop} (hK : ∀ d, ff d → fS d = false → fV d = ((z_rn 24 925 N : Nat) : Int) → K d) : wX2_floatOfSize w K := by
  refine q2_length h (Nat.lt_of_lt_of_le hN (Nat.pow_le_pow_right (by decide) (by decide))) (fun n hn h1 h2 => ?_)
  have hn2 : n ≤ 1200 := by
    refine Nat.le_of_not_lt fun c => ?_
    rcases h2 with h | h
    · omega
    · have : 2 ^ 1200 ≤ 2 ^ (n - 1) := Nat.pow_le_pow_right (by decide) (by omega)
      omega
  have hsh := z_sh_len (p := 24) (m := 925) (by decide) h1 h2
  obtain ⟨t, ht⟩ : ∃ t, t = max 925 (n - 24) := ⟨_, rfl⟩
  rw [← ht] at hsh
  have emax : ∀ K : Int32 → Prop, K (Int32.ofNat t) → wJ13_max (925 : Int32) (Int32.ofNat n - (24 : Int32)) K := by
    intro K k
    have ei : (Int32.ofNat n - (24 : Int32)).toInt = (n : Int) - 24 := by
      rw [w_sub32 (by rw [nI_int (by omega)]; show _ ≤ _ - (24 : Int); omega) (by rw [nI_int (by omega)]; show _ - (24 : Int) < _; omega), nI_int (by omega)]
      rfl
    refine ⟨fun c => ?_, fun c => ?_⟩
    · rw [Int32.lt_iff_toInt_lt, ei, show (925 : Int32).toInt = 925 by decide] at c
      have : Int32.ofNat n - (24 : Int32) = Int32.ofNat t := by
        rw [← Int32.toInt_inj, ei, nI_int (by omega)]
        omega
      rw [this]
      exact k
    · rw [Int32.lt_iff_toInt_lt, ei, show (925 : Int32).toInt = 925 by decide] at c
      have : (925 : Int32) = Int32.ofNat t := by rw [show t = 925 by omega]; rfl
      rw [this]
      exact k
  refine emax _ ?_
  have hNs : N < 2 ^ (24 + t) := Nat.lt_of_lt_of_le h1 (Nat.pow_le_pow_right (by decide) (by omega))
  refine q2_rounded h (Nat.lt_of_lt_of_le hN (Nat.pow_le_pow_right (by decide) (by decide))) (Nat.lt_of_lt_of_le hNs (Nat.pow_le_pow_right (by decide) (by omega))) (by omega) (fun q hq => ?_)
  have hq1 : FP.Core.nearest N (2 ^ t) ≤ 16777216 := z_near_pow hNs
  have hq2 : t - 925 = 0 ∨ 8388608 ≤ FP.Core.nearest N (2 ^ t) := by
    by_cases c : t - 925 = 0
    · exact Or.inl c
    · refine Or.inr (z_near_ge (Nat.two_pow_pos _) ?_)
      rw [show 8388608 = 2 ^ 23 from rfl, ← Nat.pow_add, show 23 + t = n - 1 by omega]
      rcases h2 with h | h
      · omega
      · exact h
  have hrn : z_rn 24 925 N = FP.Core.nearest N (2 ^ t) * 2 ^ t := by
    unfold z_rn
    rw [hsh]
  intro x hx
  have e0 : (Int32.ofNat t - 925).toInt = ((t - 925 : Nat) : Int) := by
    rw [w_sub32 (by rw [nI_int (by omega)]; show _ ≤ _ - (925 : Int); omega) (by rw [nI_int (by omega)]; show _ - (925 : Int) < _; omega), nI_int (by omega)]
    show (t : Int) - 925 = _
    omega
  have e1 : (jishl (Int32.ofNat t - 925) 23).toInt = ((t - 925 : Nat) : Int) * 8388608 := by
    have := w_ishl (y := Int32.ofNat t - 925) (k := 23) (by decide) (by rw [e0]; omega) (by rw [e0]; omega)
    rw [e0] at this
    exact this
  have e2 : x.toInt = q.toInt := by
    rw [hx, Int64.toInt_toInt32]
    exact Int.bmod_eq_of_le (by omega) (by omega)
  have e3 : (jishl (Int32.ofNat t - 925) 23 + x).toInt = ((t - 925 : Nat) : Int) * 8388608 + q.toInt := by
    rw [w_add32 (by omega) (by omega), e1, e2]
  have hn3 : ((jishl (Int32.ofNat t - 925) 23 + x).toBitVec.toNat : Int) = (jishl (Int32.ofNat t - 925) 23 + x).toInt := w_nn32 (by omega)
  have hu : (jishl (Int32.ofNat t - 925) 23 + x).toUInt32.toNat = (t - 925) * 8388608 + FP.Core.nearest N (2 ^ t) := by
    show (jishl (Int32.ofNat t - 925) 23 + x).toBitVec.toNat = _
    omega
  obtain ⟨m1, m2, m3⟩ := f_mk (by omega) hq1 hq2 hu
  exact ⟨f_sni m1, hK _ m1 m2 (by rw [m3, hrn, show t - 925 + 925 = t by omega])⟩
theorem EX_abs {n o : Nat} {f : Nat → Int32} {z : Int} (h : EX n o f z) (hz : 0 ≤ z) : EX n o f (z.natAbs : Int) := by
  rw [Int.natAbs_of_nonneg hz]
  exact h
theorem z_rs_abs {p m : Nat} {z : Int} : (z_rs p m z) = if z < 0 then -((z_rn p m z.natAbs : Nat) : Int) else ((z_rn p m z.natAbs : Nat) : Int) := rfl
theorem z_P39 : z_P 39 * 2147483648 = ((2 ^ 1279 : Nat) : Int) := by
  have e : z_P 39 = ((2 ^ 1248 : Nat) : Int) := rfl
  rw [e, show (2147483648 : Int) = ((2 ^ 31 : Nat) : Int) from rfl, ← Int.natCast_mul]
  exact congrArg (fun n : Nat => (n : Int)) (Nat.pow_add 2 1248 31).symm
theorem q2_toDouble {w : Nat → Int32} {z : Int} (h : EX 40 0 w z) (hz : z.natAbs < 2 ^ 1279) {K : UInt64 → (Nat → Int32) → Prop} (hK : ∀ d w', zf d → zS d = decide (z < 0) → zV d = z_rs 53 0 z → EX 40 0 w' z → K d w') : wX2_toDouble w K := by
  have hp : (2 : Nat) ^ 1279 * 2 = 2 ^ 1280 := (Nat.pow_succ 2 1279).symm
  have hP := z_P39
  refine q2_sign h (by omega) (by omega) ?_
  unfold z_sg
  by_cases c : z < 0
  · rw [if_pos c]
    refine ⟨fun d => absurd d (by decide), fun _ => q2_negate h (fun w1 hw1 => ?_)⟩
    refine q2_doubleOfSize (N := z.natAbs) (by rw [show ((z.natAbs : Nat) : Int) = -z by omega]; exact hw1) (by omega) (fun d d1 d2 d3 => ⟨fun q => absurd q (by decide), fun _ => q2_negate hw1 (fun w2 hw2 => ⟨fun q => absurd q (by decide), fun _ => ?_⟩)⟩)
    obtain ⟨n1, n2, n3⟩ := z_dneg d1
    refine hK _ _ n1 (by rw [n3, d2, decide_eq_true c]; rfl) ?_ (by rw [Int.neg_neg] at hw2; exact hw2)
    rw [n2, d3, z_rs_abs, if_pos c]
  · have hle : (0 : Int32) ≤ (if z < 0 then -1 else if z = 0 then 0 else 1) := by
      rw [if_neg c]
      split <;> decide
    refine ⟨fun _ => ?_, fun q => absurd hle q⟩
    refine q2_doubleOfSize (EX_abs h (by omega)) (by omega) (fun d d1 d2 d3 => ⟨fun _ => ⟨fun _ => ?_, fun q => absurd rfl q⟩, fun q => absurd rfl q⟩)
    refine hK _ _ d1 (by rw [d2, decide_eq_false c]) ?_ h
    rw [d3, z_rs_abs, if_neg c]
theorem q2_toFloat {w : Nat → Int32} {z : Int} (h : EX 40 0 w z) (hz : z.natAbs < 2 ^ 1200) {K : UInt32 → (Nat → Int32) → Prop} (hK : ∀ d w', ff d → fS d = decide (z < 0) → fV d = z_rs 24 925 z → EX 40 0 w' z → K d w') : wX2_toFloat w K := by
  have hp : (2 : Nat) ^ 1200 ≤ 2 ^ 1279 := Nat.pow_le_pow_right (by decide) (by decide)
  have hP := z_P39
  refine q2_sign h (by omega) (by omega) ?_
  unfold z_sg
  by_cases c : z < 0
  · rw [if_pos c]
    refine ⟨fun d => absurd d (by decide), fun _ => q2_negate h (fun w1 hw1 => ?_)⟩
    refine q2_floatOfSize (N := z.natAbs) (by rw [show ((z.natAbs : Nat) : Int) = -z by omega]; exact hw1) (by omega) (fun d d1 d2 d3 => ⟨fun q => absurd q (by decide), fun _ => q2_negate hw1 (fun w2 hw2 => ⟨fun q => absurd q (by decide), fun _ => ?_⟩)⟩)
    obtain ⟨n1, n2, n3⟩ := f_fneg d1
    refine hK _ _ n1 (by rw [n3, d2, decide_eq_true c]; rfl) ?_ (by rw [Int.neg_neg] at hw2; exact hw2)
    rw [n2, d3, z_rs_abs, if_pos c]
  · have hle : (0 : Int32) ≤ (if z < 0 then -1 else if z = 0 then 0 else 1) := by
      rw [if_neg c]
      split <;> decide
    refine ⟨fun _ => ?_, fun q => absurd hle q⟩
    refine q2_floatOfSize (EX_abs h (by omega)) (by omega) (fun d d1 d2 d3 => ⟨fun _ => ⟨fun _ => ?_, fun q => absurd rfl q⟩, fun q => absurd rfl q⟩)
    refine hK _ _ d1 (by rw [d2, decide_eq_false c]) ?_ h
    rw [d3, z_rs_abs, if_neg c]
/-! a double comes to a number, or goes from it -/
def z_pt (at_ : Nat) (a b c : Int) (j : Nat) : Int := if j = at_ then a else if j = at_ + 1 then b else if j = at_ + 2 then c else 0
theorem z_pt_bd {at_ : Nat} {a b c : Int} (ha : 0 ≤ a ∧ a < 4294967296) (hb : 0 ≤ b ∧ b < 4294967296) (hc : 0 ≤ c ∧ c < 4294967296) (j : Nat) : 0 ≤ z_pt at_ a b c j ∧ z_pt at_ a b c j < 4294967296 := by
  unfold z_pt
  split
  · exact ha
  · split
    · exact hb
    · split
      · exact hc
      · omega
theorem z_pt_sum {at_ n : Nat} {a b c : Int} (h : at_ + 3 ≤ n) : z_W (z_pt at_ a b c) n = (a + b * 4294967296 + c * 18446744073709551616) * z_P at_ := by
  rw [show n = at_ + (3 + (n - at_ - 3)) by omega, z_W_split, z_W_congr (D' := fun _ => 0) (fun j hj => by unfold z_pt; rw [if_neg (by omega), if_neg (by omega), if_neg (by omega)]), z_W_0, z_W_split, z_W_congr (n := n - at_ - 3) (D' := fun _ => 0) (fun j hj => by unfold z_pt; rw [if_neg (by omega), if_neg (by omega), if_neg (by omega)]), z_W_0, Int.zero_mul, Int.zero_add, Int.add_zero]
  congr 1
  show 0 + z_pt at_ a b c (at_ + 0) * 1 + z_pt at_ a b c (at_ + 1) * 4294967296 + z_pt at_ a b c (at_ + 2) * 18446744073709551616 = _
  unfold z_pt
  rw [if_pos (by omega), if_neg (by omega), if_pos (by omega), if_neg (by omega), if_neg (by omega), if_pos (by omega)]
  omega
theorem q2_shift_L {f0 : Nat → Int32} {p2 : Int32} {at_ : Nat} (hat : at_ + 2 < 40) {y5 y6 y7 : Int64} (h5 : 0 ≤ y5.toInt ∧ y5.toInt < 4294967296) (h6 : 0 ≤ (y6 &&& 4294967295).toInt ∧ (y6 &&& 4294967295).toInt < 4294967296) (h7 : 0 ≤ y7.toInt ∧ y7.toInt < 4294967296) {sg : Int} (hsg : (p2 = 0 → sg = 1) ∧ (¬ p2 = 0 → sg = -1)) {X : Int64 → Int32 → (Nat → Int32) → Prop} (hX : ∀ c i, X c i (z_st (fun j => z_w (f0 j) + z_pt at_ y5.toInt (y6 &&& 4294967295).toInt y7.toInt j * sg) 0 0 f0 40)) : ∀ (m k : Nat), k + m = 40 → ∀ c : Int64, c.toInt = z_c (fun j => z_w (f0 j) + z_pt at_ y5.toInt (y6 &&& 4294967295).toInt y7.toInt j * sg) 0 k → wX2_addShifted_L72 p2 (Int32.ofNat at_) y5 y6 y7 X (m + 1) c (Int32.ofNat k) (z_st (fun j => z_w (f0 j) + z_pt at_ y5.toInt (y6 &&& 4294967295).toInt y7.toInt j * sg) 0 0 f0 k) := by
  have hsg2 : sg = 1 ∨ sg = -1 := by
    by_cases c : p2 = 0
    · exact Or.inl (hsg.1 c)
    · exact Or.inr (hsg.2 c)
  have hpt := z_pt_bd (at_ := at_) h5 h6 h7
  intro m
  induction m with
  | zero =>
    intro k hk c hc
    have e : k = 40 := by omega
    subst e
    exact ⟨fun _ => hX _ _, fun h => absurd (Int32.le_refl _) h⟩
  | succ m ih =>
    intro k hk c hc
    have cb := z_c_bd (D := fun j => z_w (f0 j) + z_pt at_ y5.toInt (y6 &&& 4294967295).toInt y7.toInt j * sg) (c0 := 0) (lo := -1) (hi := 1) (by omega) (fun j c h1 h2 => by
      have a1 := z_w_bd (f0 j)
      have a2 := hpt j
      rcases hsg2 with q | q <;> rw [q] <;> omega) k
    have b1 := z_w_bd (f0 k)
    have b2 := hpt k
    have hv : vp_in (Int32.ofNat k) 40 := w_in (by omega) (by omega)
    have hcl := w_cl (k := k) (by omega)
    have fin : ∀ s : Int64, s.toInt = z_pt at_ y5.toInt (y6 &&& 4294967295).toInt y7.toInt k → wX2_addShifted_J124 p2 c (Int32.ofNat k) (z_st (fun j => z_w (f0 j) + z_pt at_ y5.toInt (y6 &&& 4294967295).toInt y7.toInt j * sg) 0 0 f0 k) (wX2_addShifted_L72 p2 (Int32.ofNat at_) y5 y6 y7 X (m + 1)) s := by
      intro s hs
      have step : ∀ s2 : Int64, s2.toInt = z_pt at_ y5.toInt (y6 &&& 4294967295).toInt y7.toInt k * sg → wX2_addShifted_J153 (Int32.ofNat k) (z_st (fun j => z_w (f0 j) + z_pt at_ y5.toInt (y6 &&& 4294967295).toInt y7.toInt j * sg) 0 0 f0 k) (wX2_addShifted_L72 p2 (Int32.ofNat at_) y5 y6 y7 X (m + 1)) c ((z_st (fun j => z_w (f0 j) + z_pt at_ y5.toInt (y6 &&& 4294967295).toInt y7.toInt j * sg) 0 0 f0 k (Int32.ofNat k).toNatClampNeg).toInt64 &&& 4294967295) s2 := by
        intro s2 hs2 y hy x hx
        refine ⟨hv, fun f hf y18 h18 x19 h19 => ?_⟩
        have ey : y.toInt = z_c (fun j => z_w (f0 j) + z_pt at_ y5.toInt (y6 &&& 4294967295).toInt y7.toInt j * sg) 0 k + (z_w (f0 k) + z_pt at_ y5.toInt (y6 &&& 4294967295).toInt y7.toInt k * sg) := by
          have e1 := z_w_mask (z_st (fun j => z_w (f0 j) + z_pt at_ y5.toInt (y6 &&& 4294967295).toInt y7.toInt j * sg) 0 0 f0 k (Int32.ofNat k).toNatClampNeg)
          rw [hcl] at e1 hy
          rw [z_st_out _ _ _ _ _ _ (by omega)] at e1 hy
          have hb3 : -4294967296 < z_pt at_ y5.toInt (y6 &&& 4294967295).toInt y7.toInt k * sg ∧ z_pt at_ y5.toInt (y6 &&& 4294967295).toInt y7.toInt k * sg < 4294967296 := by
            rcases hsg2 with q | q <;> rw [q] <;> omega
          have e3 := w_add64 (a := (f0 k).toInt64 &&& 4294967295) (b := s2) (by omega) (by omega)
          rw [hy, w_add64 (by omega) (by omega), e3, hc, e1, hs2]
        rw [h19, w_suc]
        rw [q_st (o := 0) ey hx (by rw [hcl]; omega) hf]
        exact ih (k + 1) (by omega) y18 (q_cs ey h18)
      refine ⟨hv, fun d => step s ?_, fun d => step (-s) ?_⟩
      · rw [hs, hsg.1 d]; omega
      · rw [w_neg64 (by omega), hs, hsg.2 d]; omega
    refine ⟨fun h => absurd ((w_leI (a := 40) (by omega) (by omega)).mp h) (by omega), fun _ => ⟨fun c1 => ⟨fun c2 => ⟨fun c3 => fin _ ?_, fun c3 => fin _ ?_⟩, fun c2 => fin _ ?_⟩, fun c1 => fin _ ?_⟩⟩
    · have d1 : k ≠ at_ := fun q => c1 (by rw [q])
      have d2 : k ≠ at_ + 1 := fun q => c2 (by rw [q, ← w_suc])
      have d3 : k ≠ at_ + 2 := fun q => c3 (by rw [q, show Int32.ofNat at_ + 2 = Int32.ofNat (at_ + 2) from nI_add at_ 2])
      unfold z_pt
      rw [if_neg d1, if_neg d2, if_neg d3]
      rfl
    · have d3 : k = at_ + 2 := by
        rw [show Int32.ofNat at_ + 2 = Int32.ofNat (at_ + 2) from nI_add at_ 2] at c3
        exact (w_eqI (by omega) (by omega)).mp c3
      unfold z_pt
      rw [if_neg (by omega), if_neg (by omega), if_pos d3]
    · have d2 : k = at_ + 1 := by
        rw [w_suc] at c2
        exact (w_eqI (by omega) (by omega)).mp c2
      unfold z_pt
      rw [if_neg (by omega), if_pos d2]
    · have d1 : k = at_ := (w_eqI (by omega) (by omega)).mp c1
      unfold z_pt
      rw [if_pos d1]
theorem z_parts {m : Nat} {b : Nat} : ((m % 4294967296 * 2 ^ b) % 4294967296 + ((m % 4294967296 * 2 ^ b) / 4294967296 + (m / 4294967296 * 2 ^ b) % 4294967296) % 4294967296 * 4294967296 + ((m / 4294967296 * 2 ^ b) / 4294967296 + ((m % 4294967296 * 2 ^ b) / 4294967296 + (m / 4294967296 * 2 ^ b) % 4294967296) / 4294967296) * 18446744073709551616) = m * 2 ^ b := by
  have e : m * 2 ^ b = m % 4294967296 * 2 ^ b + m / 4294967296 * 2 ^ b * 4294967296 := by
    rw [Nat.mul_assoc, Nat.mul_comm (2 ^ b) 4294967296, ← Nat.mul_assoc, ← Nat.add_mul]
    congr 1
    omega
  rw [e]
  generalize m % 4294967296 * 2 ^ b = lo
  generalize m / 4294967296 * 2 ^ b = hi
  omega
