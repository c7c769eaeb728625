/-! a number worked: sign, copied sign, least, greatest, remainder. By hand (gen/258.work.src.txt) -/
theorem f_top {a : UInt32} : (a >>> 31 == 1) = fS a := by
  have h : (a >>> 31).toNat = a.toNat / 2147483648 := by
    rw [UInt32.toNat_shiftRight]
    exact Nat.shiftRight_eq_div_pow _ _
  have hl := a.toNat_lt
  rw [f_fS]
  by_cases c : 2147483648 ≤ a.toNat
  · rw [decide_eq_true c, beq_iff_eq, ← UInt32.toNat_inj, h]
    show _ = 1
    omega
  · rw [decide_eq_false c, beq_eq_false_iff_ne, Ne, ← UInt32.toNat_inj, h]
    show ¬ _ = 1
    omega
theorem f_abs_eq {v : UInt32} (h : ff v) : fV v = FP.Core.signed (fS v) (fV v).natAbs := by
  obtain ⟨c, q, a1, a2, a3, -⟩ := f_get h
  rw [a3, z_sg_nat]
theorem z_eqa {a b : UInt64} (ha : zf a) (hb : zf b) (hs : zS a = zS b) (hv : (zV a).natAbs = (zV b).natAbs) : a = b := z_ext ha hb hs (by rw [z_abs_eq ha, z_abs_eq hb, hs, hv])
theorem z_cpsg {a b : UInt64} (ha : zf a) : zf (mCps a b) ∧ zS (mCps a b) = zS b ∧ (zV (mCps a b)).natAbs = (zV a).natAbs := by
  have e : (mCps a b).toNat = a.toNat % 9223372036854775808 + (if zS b then 9223372036854775808 else 0) := by
    unfold mCps
    rw [z_top, UInt64.toNat_or, show (0x7fffffffffffffff : UInt64) = 9223372036854775807 from rfl, z_and]
    cases zS b
    · rw [if_neg (by decide), if_neg (by decide)]
      exact Nat.or_zero _
    · rw [if_pos rfl, if_pos rfl, Nat.or_comm]
      have := Nat.two_pow_add_eq_or_of_lt (i := 63) (b := a.toNat % 9223372036854775808) (Nat.mod_lt _ (by decide)) 1
      rw [show (0x8000000000000000 : UInt64).toNat = 2 ^ 63 * 1 from rfl, ← this]
      omega
  have hm : (mCps a b).toNat % 9223372036854775808 = a.toNat % 9223372036854775808 := by
    rw [e]
    cases zS b
    · rw [if_neg (by decide)]; omega
    · rw [if_pos rfl]; omega
  obtain ⟨m1, m2⟩ := z_mod_mg hm
  have hf := m2.mpr ha
  refine ⟨hf, ?_, by rw [z_vabs hf, z_vabs ha, m1]⟩
  rw [z_zS, e]
  have := Nat.mod_lt a.toNat (show 0 < 9223372036854775808 by decide)
  cases zS b
  · rw [if_neg (by decide)]; exact decide_eq_false (by omega)
  · rw [if_pos rfl]; exact decide_eq_true (by omega)
theorem f_cpsg {a b : UInt32} (ha : ff a) : ff (mCpsF a b) ∧ fS (mCpsF a b) = fS b ∧ (fV (mCpsF a b)).natAbs = (fV a).natAbs := by
  have e : (mCpsF a b).toNat = a.toNat % 2147483648 + (if fS b then 2147483648 else 0) := by
    unfold mCpsF
    rw [f_top, UInt32.toNat_or, show (0x7fffffff : UInt32) = 2147483647 from rfl, f_and]
    cases fS b
    · rw [if_neg (by decide), if_neg (by decide)]
      exact Nat.or_zero _
    · rw [if_pos rfl, if_pos rfl, Nat.or_comm]
      have := Nat.two_pow_add_eq_or_of_lt (i := 31) (b := a.toNat % 2147483648) (Nat.mod_lt _ (by decide)) 1
      rw [show (0x80000000 : UInt32).toNat = 2 ^ 31 * 1 from rfl, ← this]
      omega
  have hm : (mCpsF a b).toNat % 2147483648 = a.toNat % 2147483648 := by
    rw [e]
    cases fS b
    · rw [if_neg (by decide)]; omega
    · rw [if_pos rfl]; omega
  obtain ⟨m1, m2⟩ := f_mod_mg hm
  have hf := m2.mpr ha
  refine ⟨hf, ?_, by rw [f_vabs hf, f_vabs ha, m1]⟩
  rw [f_fS, e]
  have := Nat.mod_lt a.toNat (show 0 < 2147483648 by decide)
  cases fS b
  · rw [if_neg (by decide)]; exact decide_eq_false (by omega)
  · rw [if_pos rfl]; exact decide_eq_true (by omega)
theorem z_is0 {v : UInt64} (h : zf v) : (v <<< 1 == 0) = decide (zV v = 0) := by
  have k := z_mg_le (u := v) (v := FP.dconst0)
  have k0 : z_mg FP.Core.b64 FP.dconst0.toNat = 0 := by decide +kernel
  rw [k0, ← z_vabs h, show FP.dconst0.toNat % 9223372036854775808 = 0 by decide +kernel] at k
  have e : (v <<< 1).toNat = v.toNat * 2 % 18446744073709551616 := by
    rw [UInt64.toNat_shiftLeft]
    show v.toNat <<< 1 % 18446744073709551616 = _
    rw [Nat.shiftLeft_eq]
  by_cases c : zV v = 0
  · rw [decide_eq_true c, beq_iff_eq, ← UInt64.toNat_inj, e]
    show _ = 0
    have := k.mpr (by omega)
    omega
  · rw [decide_eq_false c, beq_eq_false_iff_ne, Ne, ← UInt64.toNat_inj, e]
    show ¬ _ = 0
    intro q
    exact c (by have := k.mp (by omega); omega)
theorem f_is0 {v : UInt32} (h : ff v) : (v <<< 1 == 0) = decide (fV v = 0) := by
  have k := f_mg_le (u := v) (v := 0)
  have k0 : z_mg FP.Core.b32 (0 : UInt32).toNat = 0 := by decide +kernel
  rw [k0, ← f_vabs h, show (0 : UInt32).toNat % 2147483648 = 0 by decide +kernel] at k
  have e : (v <<< 1).toNat = v.toNat * 2 % 4294967296 := by
    rw [UInt32.toNat_shiftLeft]
    show v.toNat <<< 1 % 4294967296 = _
    rw [Nat.shiftLeft_eq]
  by_cases c : fV v = 0
  · rw [decide_eq_true c, beq_iff_eq, ← UInt32.toNat_inj, e]
    show _ = 0
    have := k.mpr (by omega)
    omega
  · rw [decide_eq_false c, beq_eq_false_iff_ne, Ne, ← UInt32.toNat_inj, e]
    show ¬ _ = 0
    intro q
    exact c (by have := k.mp (by omega); omega)
theorem z_sig {v : UInt64} (h : zf v) : mSig v = if zV v = 0 then v else if zS v then 13830554455654793216 else FP.dconst1 := by
  unfold mSig
  rw [z_is0 h]
  by_cases c : zV v = 0
  · rw [decide_eq_true c, if_pos rfl, if_pos c]
  · rw [decide_eq_false c, if_neg (by decide), if_neg c]
    have e : v &&& 0x8000000000000000 = if zS v then 0x8000000000000000 else 0 := by
      rw [← UInt64.toNat_inj, UInt64.toNat_and]
      refine (w_midmask v.toNat 63 1).trans ?_
      rw [z_zS]
      have hl := v.toNat_lt
      by_cases d : 9223372036854775808 ≤ v.toNat
      · rw [decide_eq_true d, if_pos rfl]
        show v.toNat / 9223372036854775808 % 2 * 9223372036854775808 = 9223372036854775808
        omega
      · rw [decide_eq_false d, if_neg (by decide)]
        show v.toNat / 9223372036854775808 % 2 * 9223372036854775808 = 0
        omega
    rw [e]
    cases zS v
    · rfl
    · rfl
theorem f_sig {v : UInt32} (h : ff v) : mSigF v = if fV v = 0 then v else if fS v then 0xbf800000 else 0x3f800000 := by
  unfold mSigF
  rw [f_is0 h]
  by_cases c : fV v = 0
  · rw [decide_eq_true c, if_pos rfl, if_pos c]
  · rw [decide_eq_false c, if_neg (by decide), if_neg c]
    have e : v &&& 0x80000000 = if fS v then 0x80000000 else 0 := by
      rw [← UInt32.toNat_inj, UInt32.toNat_and]
      refine (w_midmask v.toNat 31 1).trans ?_
      rw [f_fS]
      have hl := v.toNat_lt
      by_cases d : 2147483648 ≤ v.toNat
      · rw [decide_eq_true d, if_pos rfl]
        show v.toNat / 2147483648 % 2 * 2147483648 = 2147483648
        omega
      · rw [decide_eq_false d, if_neg (by decide)]
        show v.toNat / 2147483648 % 2 * 2147483648 = 0
        omega
    rw [e]
    cases fS v
    · rfl
    · rfl
theorem f_sig1 : FP.f2d 0x3f800000 = FP.dconst1 ∧ FP.f2d 0xbf800000 = 13830554455654793216 := by decide +kernel
theorem z_pick {a b : UInt64} (ha : zf a) (hb : zf b) (g : Bool) : Jvm.Native.java_lang_Math.nans.pick64 g a b = if zV a < zV b then (if g then b else a) else if zV b < zV a then (if g then a else b) else if zS a == g then b else a := by
  unfold Jvm.Native.java_lang_Math.nans.pick64
  rw [z_dcmp ha hb, z_top]
  by_cases c : zV a < zV b
  · rw [if_pos c, z_cmp_lt.mpr c]
  · rw [if_neg c]
    by_cases d : zV b < zV a
    · have : some (compare (zV a) (zV b)) = some Ordering.gt := by
        have := (z_dgt ha hb).mpr d
        unfold dgt at this
        rw [z_dcmp ha hb] at this
        exact this
      rw [if_pos d, this]
    · rw [if_neg d, z_cmp_eq.mpr (show zV a = zV b by omega)]
theorem f_pick {a b : UInt32} (ha : ff a) (hb : ff b) (g : Bool) : Jvm.Native.java_lang_Math.nans.pick32 g a b = if fV a < fV b then (if g then b else a) else if fV b < fV a then (if g then a else b) else if fS a == g then b else a := by
  have hz := z_f2d ha
  have hw := z_f2d hb
  unfold Jvm.Native.java_lang_Math.nans.pick32
  rw [f_fcmp ha hb, f_top]
  by_cases c : fV a < fV b
  · rw [if_pos c, z_cmp_lt.mpr c]
  · rw [if_neg c]
    by_cases d : fV b < fV a
    · have : some (compare (fV a) (fV b)) = some Ordering.gt := by
        have := (z_dgt hz.1 hw.1).mpr (by rw [hz.2.1, hw.2.1]; exact d)
        unfold dgt at this
        rw [z_dcmp hz.1 hw.1, hz.2.1, hw.2.1] at this
        exact this
      rw [if_pos d, this]
    · rw [if_neg d, z_cmp_eq.mpr (show fV a = fV b by omega)]
/-- the remainder -/
theorem z_rem {f : FP.Core.Fmt} (hf : f = FP.Core.b32 ∨ f = FP.Core.b64) {s t : Bool} {c d : Nat} {q r : Int} (hq : -1074 ≤ q) (hr : -1074 ≤ r) (h0 : d ≠ 0) (hz : c * 2 ^ (q + 1074).toNat ≤ 2 ^ (f.p - 1) * 2 ^ (f.qmax + 1074).toNat) : ∃ (c' : Nat) (q' : Int), FP.Core.round f (FP.Core.exactRemainder (.fin s c q) (.fin t d r)) = .fin s c' q' ∧ FP.Core.fits f (.fin s c' q') ∧ c' * 2 ^ (q' + 1074).toNat = z_rn f.p (f.qmin + 1074).toNat (c * 2 ^ (q + 1074).toNat % (d * 2 ^ (r + 1074).toNat)) := by
  have e : FP.Core.exactRemainder (.fin s c q) (.fin t d r) = .fin s (FP.Core.inUnits c q (min q r) % FP.Core.inUnits d r (min q r)) (min q r) := by
    show (if d = 0 then _ else _) = _
    rw [if_neg h0]
  have ev : FP.Core.inUnits c q (min q r) % FP.Core.inUnits d r (min q r) * 2 ^ (min q r + 1074).toNat = c * 2 ^ (q + 1074).toNat % (d * 2 ^ (r + 1074).toNat) := by
    rw [← z_units (c := c) (q := q) (e := min q r) (by omega) (by omega), ← z_units (c := d) (q := r) (e := min q r) (by omega) (by omega), Nat.mul_mod_mul_right]
  rw [e]
  obtain ⟨c', q', h1, h2, h3⟩ := z_round (s := s) (c := FP.Core.inUnits c q (min q r) % FP.Core.inUnits d r (min q r)) (q := min q r) (E := 1074) hf (by omega) (by omega) (by
    rw [ev]
    exact Nat.le_trans (Nat.mod_le _ _) hz)
  rw [ev] at h3
  exact ⟨c', q', h1, h2, h3⟩
theorem z_drem {a b : UInt64} (ha : zf a) (hb : zf b) (h0 : zV b ≠ 0) (hz : (zV a).natAbs ≤ 2 ^ 2097) : zf (FP.drem a b) ∧ zS (FP.drem a b) = zS a ∧ (zV (FP.drem a b)).natAbs = z_rn 53 0 ((zV a).natAbs % (zV b).natAbs) := by
  obtain ⟨c, q, a1, a2, a3, a4, a5, a6⟩ := z_get ha
  obtain ⟨d, r, b1, b2, b3, b4, b5, b6⟩ := z_get hb
  rw [a3, z_sg_nat] at hz
  have hd : d ≠ 0 := fun k => h0 (by rw [b3, k, Nat.zero_mul]; cases zS b <;> rfl)
  obtain ⟨c', q', h1, h2, h3⟩ := z_rem (s := zS a) (t := zS b) (Or.inr rfl) a4 b4 hd (by rw [z_bd64]; exact hz)
  obtain ⟨g1, g2, g3⟩ := z_put h2
  have e : FP.drem a b = UInt64.ofNat (FP.Core.encode FP.Core.b64 (.fin (zS a) c' q')) := by
    show UInt64.ofNat (FP.Core.encode FP.Core.b64 (FP.Core.round FP.Core.b64 (FP.Core.exactRemainder (FP.Core.decode FP.Core.b64 a.toNat) (FP.Core.decode FP.Core.b64 b.toNat)))) = _
    rw [a1, b1, h1]
  rw [e]
  refine ⟨g1, g2, ?_⟩
  rw [g3, z_sg_nat, h3, a3, b3, z_sg_nat, z_sg_nat]
  rfl
theorem f_frem {a b : UInt32} (ha : ff a) (hb : ff b) (h0 : fV b ≠ 0) (hz : (fV a).natAbs ≤ 2 ^ 1201) : ff (FP.frem a b) ∧ fS (FP.frem a b) = fS a ∧ (fV (FP.frem a b)).natAbs = (fV a).natAbs % (fV b).natAbs ∧ z_rn 53 0 ((fV a).natAbs % (fV b).natAbs) = (fV a).natAbs % (fV b).natAbs := by
  obtain ⟨c, q, a1, a2, a3, a4, a5, a6⟩ := f_get ha
  obtain ⟨d, r, b1, b2, b3, b4, b5, b6⟩ := f_get hb
  rw [a3, z_sg_nat] at hz
  have hd : d ≠ 0 := fun k => h0 (by rw [b3, k, Nat.zero_mul]; cases fS b <;> rfl)
  obtain ⟨c', q', h1, h2, h3⟩ := z_rem (s := fS a) (t := fS b) (c := c) (d := d) (q := q) (r := r) (Or.inl rfl) (by omega) (by omega) hd (by rw [z_bd32]; exact hz)
  obtain ⟨g1, g2, g3⟩ := f_put h2
  have e : FP.frem a b = UInt32.ofNat (FP.Core.encode FP.Core.b32 (.fin (fS a) c' q')) := by
    show UInt32.ofNat (FP.Core.encode FP.Core.b32 (FP.Core.round FP.Core.b32 (FP.Core.exactRemainder (FP.Core.decode FP.Core.b32 a.toNat) (FP.Core.decode FP.Core.b32 b.toNat)))) = _
    rw [a1, b1, h1]
  have ev : c * 2 ^ (q + 1074).toNat % (d * 2 ^ (r + 1074).toNat) = FP.Core.inUnits c q (min q r) % FP.Core.inUnits d r (min q r) * 2 ^ (min q r + 1074).toNat := by
    rw [← z_units (c := c) (q := q) (e := min q r) (by omega) (by omega), ← z_units (c := d) (q := r) (e := min q r) (by omega) (by omega), Nat.mul_mod_mul_right]
  have hsm : FP.Core.inUnits c q (min q r) % FP.Core.inUnits d r (min q r) < 16777216 := by
    by_cases k : q ≤ r
    · refine Nat.lt_of_le_of_lt (Nat.mod_le _ _) ?_
      unfold FP.Core.inUnits
      rw [show (q - min q r).toNat = 0 by omega, Nat.pow_zero, Nat.mul_one]
      exact a6
    · have e1 : FP.Core.inUnits d r (min q r) = d := by
        unfold FP.Core.inUnits
        rw [show (r - min q r).toNat = 0 by omega, Nat.pow_zero, Nat.mul_one]
      rw [e1]
      exact Nat.lt_trans (Nat.mod_lt _ (by omega)) b6
  rw [e]
  rw [a3, b3, z_sg_nat, z_sg_nat]
  refine ⟨g1, g2, ?_, ?_⟩
  · rw [g3, z_sg_nat, h3, ev]
    exact z_rn_id (p := 24) (m := 925) (by decide) (Nat.le_of_lt hsm) (by omega)
  · rw [ev]
    exact z_rn_id (p := 53) (m := 0) (by decide) (Nat.le_trans (Nat.le_of_lt hsm) (by decide)) (Nat.zero_le _)
