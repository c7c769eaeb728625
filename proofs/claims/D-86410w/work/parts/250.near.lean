/-! the numbers' whole parts in floating point; rint. By hand (gen/250.near.src.txt) -/
theorem z_top {a : UInt64} : (a >>> 63 == 1) = zS a := by
  have h : (a >>> 63).toNat = a.toNat / 9223372036854775808 := by
    rw [UInt64.toNat_shiftRight]
    exact Nat.shiftRight_eq_div_pow _ _
  have hl := a.toNat_lt
  rw [z_zS]
  by_cases c : 9223372036854775808 ≤ a.toNat
  · rw [decide_eq_true c, beq_iff_eq, ← UInt64.toNat_inj, h]
    show _ = 1
    omega
  · rw [decide_eq_false c, beq_eq_false_iff_ne, Ne, ← UInt64.toNat_inj, h]
    show ¬ _ = 1
    omega
theorem z_cps (v : UInt64) : mCps FP.dconst1 v = if zS v then 13830554455654793216 else 4607182418800017408 := by
  unfold mCps
  rw [z_top]
  cases zS v
  · rfl
  · rfl
theorem z_p1 : FP.Core.decode FP.Core.b64 (4607182418800017408 : UInt64).toNat = .fin false 4503599627370496 (-52) := by decide +kernel
theorem z_m1 : FP.Core.decode FP.Core.b64 (13830554455654793216 : UInt64).toNat = .fin true 4503599627370496 (-52) := by decide +kernel
theorem z_cpsd (v : UInt64) : FP.Core.decode FP.Core.b64 (mCps FP.dconst1 v).toNat = .fin (zS v) 4503599627370496 (-52) := by
  rw [z_cps]
  cases zS v
  · exact z_p1
  · exact z_m1
theorem z_cpsv (v : UInt64) : (dgt (mCps FP.dconst1 v) FP.dconst0 ↔ zS v = false) ∧ (dlt (mCps FP.dconst1 v) FP.dconst0 ↔ zS v = true) := by
  have a1 : zf 13830554455654793216 ∧ zV 13830554455654793216 < 0 := by
    refine ⟨by unfold zf; decide +kernel, by decide +kernel⟩
  have a2 : zf 4607182418800017408 ∧ 0 < zV 4607182418800017408 := by
    refine ⟨by unfold zf; decide +kernel, by decide +kernel⟩
  obtain ⟨b1, b2, -⟩ := z_0
  rw [z_cps]
  cases zS v
  · rw [if_neg (by decide), z_dgt a2.1 b1, z_dlt a2.1 b1, b2]
    refine ⟨⟨fun _ => rfl, fun _ => a2.2⟩, ⟨fun h => ?_, fun h => nomatch h⟩⟩
    have := a2.2
    omega
  · rw [if_pos rfl, z_dgt a1.1 b1, z_dlt a1.1 b1, b2]
    refine ⟨⟨fun h => ?_, fun h => nomatch h⟩, ⟨fun _ => rfl, fun _ => a1.2⟩⟩
    have := a1.2
    omega
/-- one, in the units of the least number -/
def z_one : Nat := 2 ^ 1074
theorem z_one_pos : 0 < z_one := Nat.two_pow_pos _
theorem z_rnat {n : Nat} (h : n ≤ 2 ^ 53) : z_rs 53 0 ((n * z_one : Nat) : Int) = ((n * z_one : Nat) : Int) := by
  have e := z_rn_id (p := 53) (m := 0) (b := n) (j := 1074) (by decide) h (Nat.zero_le _)
  unfold z_rs
  rw [if_neg (by omega), Int.natAbs_natCast]
  exact congrArg _ e
theorem z_l2d {y : Int64} (h : y.toInt.natAbs < 2 ^ 53) : zf (FP.l2d y) ∧ zV (FP.l2d y) = FP.Core.signed (decide (y.toInt < 0)) (y.toInt.natAbs * z_one) ∧ zS (FP.l2d y) = decide (y.toInt < 0) := by
  obtain ⟨c', q', h1, h2, h3⟩ := z_round (s := decide (y.toInt < 0)) (c := y.toInt.natAbs) (q := 0) (E := 1074) (Or.inr rfl) (by omega) (by omega) (by
    rw [z_bd64, show ((0 : Int) + 1074).toNat = 1074 from rfl]
    refine Nat.le_trans (Nat.mul_le_mul_right _ (Nat.le_of_lt h)) ?_
    rw [← Nat.pow_add]
    exact Nat.pow_le_pow_right (by decide) (by decide))
  obtain ⟨g1, g2, g3⟩ := z_put h2
  have e : FP.l2d y = UInt64.ofNat (FP.Core.encode FP.Core.b64 (.fin (decide (y.toInt < 0)) c' q')) := by
    show UInt64.ofNat (FP.Core.encode FP.Core.b64 (FP.Core.round FP.Core.b64 (.fin (decide (y.toInt < 0)) y.toInt.natAbs 0))) = _
    rw [h1]
  rw [e]
  refine ⟨g1, ?_, g2⟩
  rw [g3, h3, z_k64.2.2.1, z_m64, show ((0 : Int) + 1074).toNat = 1074 from rfl, z_rn_id (by decide) (Nat.le_of_lt h) (Nat.zero_le _)]
  rfl
/-- a number of 2^53 at least is whole -/
theorem z_bigw {v : UInt64} (h : zf v) (hb : 2 ^ 52 * z_one ≤ (zV v).natAbs) : (zV v).natAbs % z_one = 0 := by
  obtain ⟨c, q, a1, a2, a3, a4, a5, a6⟩ := z_get h
  rw [a3, z_sg_nat] at hb ⊢
  have c1 : 0 ≤ q + 1 := by
    refine Classical.byContradiction fun k => ?_
    have : c * 2 ^ (q + 1074).toNat < 2 ^ 53 * 2 ^ (q + 1074).toNat := (Nat.mul_lt_mul_right (Nat.two_pow_pos _)).mpr a6
    have e : 2 ^ 53 * 2 ^ (q + 1074).toNat ≤ 2 ^ 52 * z_one := by
      unfold z_one
      rw [← Nat.pow_add, ← Nat.pow_add]
      exact Nat.pow_le_pow_right (by decide) (by omega)
    omega
  by_cases c2 : 0 ≤ q
  · rw [show (q + 1074).toNat = q.toNat + 1074 by omega, Nat.pow_add, ← Nat.mul_assoc]
    exact Nat.mul_mod_left _ _
  · have e : q = -1 := by omega
    subst e
    exfalso
    have e1 : 2 ^ 52 * z_one = 2 ^ 53 * 2 ^ 1073 := by unfold z_one; rw [← Nat.pow_add, ← Nat.pow_add]
    rw [e1, show ((-1 : Int) + 1074).toNat = 1073 from rfl] at hb
    have := Nat.le_of_mul_le_mul_right hb (Nat.two_pow_pos _)
    omega
theorem z_abs_eq {v : UInt64} (h : zf v) : zV v = FP.Core.signed (zS v) (zV v).natAbs := by
  obtain ⟨c, q, a1, a2, a3, -⟩ := z_get h
  rw [a3, z_sg_nat]
/-- nearest whole number's size -/
def z_ri (M : Nat) : Nat := FP.Core.nearest M z_one
theorem z_ri_split {M : Nat} : z_ri M = M / z_one + (if z_one < 2 * (M % z_one) ∨ (z_one = 2 * (M % z_one) ∧ M / z_one % 2 = 1) then 1 else 0) := by
  have e := p_near (Q := M / z_one) (R := M % z_one) (D := z_one) (Nat.mod_lt _ z_one_pos)
  rw [Nat.div_add_mod' M z_one] at e
  exact e
theorem z_ri_whole {M : Nat} (h : M % z_one = 0) : z_ri M * z_one = M := by
  have p := z_one_pos
  rw [z_ri_split, h, if_neg (by omega), Nat.add_zero]
  have := Nat.div_add_mod' M z_one
  omega
theorem z_ri_not {M : Nat} (h : ¬ M % z_one = 0) : ¬ z_ri M * z_one = M := by
  intro q
  exact h (by rw [← q]; exact Nat.mul_mod_left _ _)
theorem z_c52 : zf 4841369599423283200 ∧ zV 4841369599423283200 = ((2 ^ 52 * z_one : Nat) : Int) ∧ zS 4841369599423283200 = false := by
  refine ⟨by unfold zf; decide +kernel, by decide +kernel, by decide +kernel⟩
theorem z_c53 : zf 4845873199050653696 ∧ zV 4845873199050653696 = ((2 ^ 53 * z_one : Nat) : Int) ∧ zS 4845873199050653696 = false := by
  refine ⟨by unfold zf; decide +kernel, by decide +kernel, by decide +kernel⟩
theorem z_c53n : zf 14069245235905429504 ∧ zV 14069245235905429504 = -((2 ^ 53 * z_one : Nat) : Int) := by
  refine ⟨by unfold zf; decide +kernel, by decide +kernel⟩
theorem z_ss_ff {a b : Bool} {V : Int} (h : 0 ≤ V) (hab : (a && b) = false) : z_ss a b V = false := by
  unfold z_ss
  by_cases c : V = 0
  · rw [if_pos c, hab]
  · rw [if_neg c]
    exact decide_eq_false (by omega)
theorem z_2097 : 2 ^ 54 * z_one ≤ 2 ^ 2097 := by
  unfold z_one
  rw [← Nat.pow_add]
  exact Nat.pow_le_pow_right (by decide) (by decide)
theorem z_rn_mid {M : Nat} (h : M < 2 ^ 52 * z_one) : z_rn 53 0 (2 ^ 52 * z_one + M) = (2 ^ 52 + z_ri M) * z_one := by
  have h0 : 2 ^ 52 * z_one + M ≠ 0 := by have := z_one_pos; omega
  have e : z_sh 53 0 (2 ^ 52 * z_one + M) = 1074 := by
    unfold z_sh
    have e1 : (2 ^ 52 * z_one + M).log2 = 1126 := by
      rw [Nat.log2_eq_iff h0]
      unfold z_one at h ⊢
      refine ⟨?_, ?_⟩
      · rw [← Nat.pow_add]; exact Nat.le_add_right _ _
      · have gen : ∀ n : Nat, 2 ^ (n + 1) = 2 ^ n + 2 ^ n := fun n => by rw [Nat.pow_succ, Nat.mul_two]
        rw [gen 1126]
        have e0 : 2 ^ 52 * 2 ^ 1074 = 2 ^ 1126 := (Nat.pow_add 2 52 1074).symm
        rw [e0] at h ⊢
        exact Nat.add_lt_add_left h _
    rw [e1]
    decide
  unfold z_rn
  rw [e]
  show FP.Core.nearest (2 ^ 52 * z_one + M) z_one * z_one = _
  refine congrArg (· * z_one) ?_
  have e2 : 2 ^ 52 * z_one + M = (2 ^ 52 + M / z_one) * z_one + M % z_one := by
    rw [Nat.add_mul, Nat.add_assoc, Nat.div_add_mod' M z_one]
  rw [e2, p_near (Nat.mod_lt _ z_one_pos), z_ri_split, show (2 ^ 52 + M / z_one) % 2 = M / z_one % 2 by omega, Nat.add_assoc]
theorem z_ri_le {M : Nat} (h : M < 2 ^ 52 * z_one) : z_ri M ≤ 2 ^ 52 := z_near_le z_one_pos (Nat.le_of_lt h)
theorem q_rint {v : UInt64} (h : zf v) (hb : (zV v).natAbs ≤ 2 ^ 2097) {K : UInt64 → Prop} (hK : ∀ r, zf r → zS r = zS v → (zV r).natAbs = z_ri (zV v).natAbs * z_one → K r) : wJ14_rint v K := by
  obtain ⟨a1, a2, a3⟩ := z_mAbs h
  obtain ⟨c1, c2, c3⟩ := z_c52
  have fin : ∀ d, zf d → zS d = false → zV d = ((z_ri (zV v).natAbs * z_one : Nat) : Int) → (zV d).natAbs ≤ 2 ^ 2097 → vf_n64 (FP.dmul (mCps FP.dconst1 v) d) ∧ K (FP.dmul (mCps FP.dconst1 v) d) := by
    intro d d1 d2 d3 d4
    obtain ⟨m1, m2, m3⟩ := z_mul1 (z_cpsd v) d1 d4
    refine ⟨z_n64 m1, hK _ m1 ?_ ?_⟩
    · rw [m3, d2]; cases zS v <;> rfl
    · rw [m2, d3]
      cases zS v
      · rw [if_neg (by decide), Int.natAbs_natCast]
      · rw [if_pos rfl, Int.natAbs_neg, Int.natAbs_natCast]
  refine ⟨z_nan h, fun r1 hr1 => ?_⟩
  subst hr1
  refine ⟨z_n64 h, fun r2 hr2 => ?_⟩
  subst hr2
  rw [z_dlt a1 c1, a2, c2]
  refine ⟨fun c => fin _ a1 a3 ?_ (by rw [a2, Int.natAbs_natCast]; exact hb), fun c => ?_⟩
  · rw [a2, z_ri_whole (z_bigw h (by omega))]
  · have hM : (zV v).natAbs < 2 ^ 52 * z_one := by omega
    have big := z_2097
    have hle := z_ri_le hM
    have e1 : zV 4841369599423283200 + zV (mAbs v) = ((2 ^ 52 * z_one + (zV v).natAbs : Nat) : Int) := by
      rw [a2, c2]; exact (Int.natCast_add _ _).symm
    obtain ⟨s1, s2, s3⟩ := z_dadd c1 a1 (by rw [e1, Int.natAbs_natCast]; omega)
    have e2 : zV (FP.dadd 4841369599423283200 (mAbs v)) = (((2 ^ 52 + z_ri (zV v).natAbs) * z_one : Nat) : Int) := by
      rw [s2, e1]
      unfold z_rs
      rw [if_neg (by omega), Int.natAbs_natCast, z_rn_mid hM]
    have e3 : zS (FP.dadd 4841369599423283200 (mAbs v)) = false := by
      rw [s3, e1]
      exact z_ss_ff (by omega) (by rw [c3]; rfl)
    have e4 : zV (FP.dadd 4841369599423283200 (mAbs v)) - zV 4841369599423283200 = ((z_ri (zV v).natAbs * z_one : Nat) : Int) := by
      rw [e2, c2, Nat.add_mul]
      omega
    have e5 : z_ri (zV v).natAbs * z_one ≤ 2 ^ 52 * z_one := Nat.mul_le_mul_right _ hle
    obtain ⟨t1, t2, t3⟩ := z_dsub s1 c1 (by rw [e4, Int.natAbs_natCast]; omega)
    refine ⟨z_n64 s1, z_n64 t1, fun r3 hr3 => ?_⟩
    subst hr3
    have e6 : zV (FP.dsub (FP.dadd 4841369599423283200 (mAbs v)) 4841369599423283200) = ((z_ri (zV v).natAbs * z_one : Nat) : Int) := by
      rw [t2, e4, z_rnat (by omega)]
    refine fin _ t1 ?_ e6 (by rw [e6, Int.natAbs_natCast]; omega)
    rw [t3, e4, e3]
    exact z_ss_ff (by omega) (by rw [c3]; rfl)
