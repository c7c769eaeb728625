/-! Numbers: signs, sizes, orders by bits; no NaN. By hand -/
theorem z_E (n : Nat) : FP.Core.fieldE FP.Core.b64 n = n / 4503599627370496 % 2048 := by
  unfold FP.Core.fieldE
  rw [z_k64.1, z_k64.2.1]
theorem z_T (n : Nat) : FP.Core.fieldT FP.Core.b64 n = n % 4503599627370496 := by
  unfold FP.Core.fieldT
  rw [z_k64.2.1]
theorem z_Sg (n : Nat) : FP.Core.fieldS FP.Core.b64 n = (n / 4503599627370496 / 2048 % 2 == 1) := by
  unfold FP.Core.fieldS
  rw [z_k64.1, z_k64.2.1]
theorem f_E (n : Nat) : FP.Core.fieldE FP.Core.b32 n = n / 8388608 % 256 := by
  unfold FP.Core.fieldE
  rw [z_k32.1, z_k32.2.1]
theorem f_T (n : Nat) : FP.Core.fieldT FP.Core.b32 n = n % 8388608 := by
  unfold FP.Core.fieldT
  rw [z_k32.2.1]
theorem f_Sg (n : Nat) : FP.Core.fieldS FP.Core.b32 n = (n / 8388608 / 256 % 2 == 1) := by
  unfold FP.Core.fieldS
  rw [z_k32.1, z_k32.2.1]
/-- the size of finite bits -/
def z_mg (f : FP.Core.Fmt) (n : Nat) : Nat := (if FP.Core.fieldE f n = 0 then FP.Core.fieldT f n else f.tails + FP.Core.fieldT f n) * 2 ^ ((f.qmin + 1074).toNat + (FP.Core.fieldE f n - 1))
theorem z_vmg {f : FP.Core.Fmt} (hf : f = FP.Core.b32 ∨ f = FP.Core.b64) {n : Nat} (h : FP.Core.fieldE f n ≠ f.exps - 1) : z_v (FP.Core.decode f n) = FP.Core.signed (FP.Core.fieldS f n) (z_mg f n) := by
  obtain ⟨f1, f2, f3, f4, f5, f6, f7, f8⟩ := z_fmt hf
  unfold FP.Core.decode z_mg
  rw [if_neg h]
  by_cases c2 : FP.Core.fieldE f n = 0
  · rw [if_pos c2, if_pos c2, c2]
    show FP.Core.signed _ (_ * 2 ^ (f.qmin + 1074).toNat) = _
    rw [show (f.qmin + 1074).toNat + (0 - 1) = (f.qmin + 1074).toNat by omega]
  · rw [if_neg c2, if_neg c2]
    show FP.Core.signed _ (_ * 2 ^ (f.qmin + ((FP.Core.fieldE f n : Int) - 1) + 1074).toNat) = _
    rw [show (f.qmin + ((FP.Core.fieldE f n : Int) - 1) + 1074).toNat = (f.qmin + 1074).toNat + (FP.Core.fieldE f n - 1) by omega]
theorem z_val {u : UInt64} (h : zf u) : zV u = FP.Core.signed (zS u) (z_mg FP.Core.b64 u.toNat) := z_vmg (Or.inr rfl) (show FP.Core.fieldE FP.Core.b64 u.toNat ≠ FP.Core.b64.exps - 1 from h)
theorem f_val {u : UInt32} (h : ff u) : fV u = FP.Core.signed (fS u) (z_mg FP.Core.b32 u.toNat) := z_vmg (Or.inl rfl) (show FP.Core.fieldE FP.Core.b32 u.toNat ≠ FP.Core.b32.exps - 1 from h)
theorem z_mg_lt {f : FP.Core.Fmt} (hf : f = FP.Core.b32 ∨ f = FP.Core.b64) {n m : Nat} (h : FP.Core.fieldE f n < FP.Core.fieldE f m ∨ (FP.Core.fieldE f n = FP.Core.fieldE f m ∧ FP.Core.fieldT f n < FP.Core.fieldT f m)) : z_mg f n < z_mg f m := by
  obtain ⟨f1, f2, f3, f4, f5, f6, f7, f8⟩ := z_fmt hf
  have t1 : FP.Core.fieldT f n < f.tails := Nat.mod_lt _ f1
  unfold z_mg
  generalize FP.Core.fieldE f n = E1 at *
  generalize FP.Core.fieldE f m = E2 at *
  generalize FP.Core.fieldT f n = T1 at *
  generalize FP.Core.fieldT f m = T2 at *
  generalize (f.qmin + 1074).toNat = M at *
  rcases h with h | ⟨h1, h2⟩
  · rw [if_neg (show ¬ E2 = 0 by omega)]
    by_cases c : E1 = 0
    · rw [if_pos c, c]
      refine Nat.lt_of_lt_of_le (Nat.mul_lt_mul_of_pos_right (show T1 < f.tails + T2 by omega) (Nat.two_pow_pos _)) ?_
      exact Nat.mul_le_mul_left _ (Nat.pow_le_pow_right (by decide) (by omega))
    · rw [if_neg c]
      refine Nat.lt_of_lt_of_le (Nat.mul_lt_mul_of_pos_right (show f.tails + T1 < (f.tails + T2) * 2 by omega) (Nat.two_pow_pos _)) ?_
      rw [Nat.mul_assoc, ← Nat.pow_add_one']
      exact Nat.mul_le_mul_left _ (Nat.pow_le_pow_right (by decide) (by omega))
  · subst h1
    refine Nat.mul_lt_mul_of_pos_right ?_ (Nat.two_pow_pos _)
    split <;> omega
theorem z_mg_le {u v : UInt64} : u.toNat % 9223372036854775808 ≤ v.toNat % 9223372036854775808 ↔ z_mg FP.Core.b64 u.toNat ≤ z_mg FP.Core.b64 v.toNat := by
  have key : ∀ a b : UInt64, a.toNat % 9223372036854775808 < b.toNat % 9223372036854775808 → z_mg FP.Core.b64 a.toNat < z_mg FP.Core.b64 b.toNat := by
    intro a b h
    refine z_mg_lt (Or.inr rfl) ?_
    rw [z_E, z_E, z_T, z_T]
    omega
  refine ⟨fun h => ?_, fun h => Nat.le_of_not_lt fun c => Nat.lt_irrefl _ (Nat.lt_of_lt_of_le (key _ _ c) h)⟩
  rcases Nat.lt_or_eq_of_le h with h | h
  · exact Nat.le_of_lt (key _ _ h)
  · unfold z_mg
    rw [z_E, z_E, z_T, z_T, show u.toNat / 4503599627370496 % 2048 = v.toNat / 4503599627370496 % 2048 by omega, show u.toNat % 4503599627370496 = v.toNat % 4503599627370496 by omega]
    exact Nat.le_refl _
theorem f_mg_le {u v : UInt32} : u.toNat % 2147483648 ≤ v.toNat % 2147483648 ↔ z_mg FP.Core.b32 u.toNat ≤ z_mg FP.Core.b32 v.toNat := by
  have key : ∀ a b : UInt32, a.toNat % 2147483648 < b.toNat % 2147483648 → z_mg FP.Core.b32 a.toNat < z_mg FP.Core.b32 b.toNat := by
    intro a b h
    refine z_mg_lt (Or.inl rfl) ?_
    rw [f_E, f_E, f_T, f_T]
    omega
  refine ⟨fun h => ?_, fun h => Nat.le_of_not_lt fun c => Nat.lt_irrefl _ (Nat.lt_of_lt_of_le (key _ _ c) h)⟩
  rcases Nat.lt_or_eq_of_le h with h | h
  · exact Nat.le_of_lt (key _ _ h)
  · unfold z_mg
    rw [f_E, f_E, f_T, f_T, show u.toNat / 8388608 % 256 = v.toNat / 8388608 % 256 by omega, show u.toNat % 8388608 = v.toNat % 8388608 by omega]
    exact Nat.le_refl _
theorem z_vabs {u : UInt64} (h : zf u) : (zV u).natAbs = z_mg FP.Core.b64 u.toNat := by rw [z_val h, z_sg_nat]
theorem f_vabs {u : UInt32} (h : ff u) : (fV u).natAbs = z_mg FP.Core.b32 u.toNat := by rw [f_val h, z_sg_nat]
theorem z_and (u : UInt64) : (u &&& 9223372036854775807).toNat = u.toNat % 9223372036854775808 := by
  rw [UInt64.toNat_and]
  exact Nat.and_two_pow_sub_one_eq_mod u.toNat 63
theorem f_and (u : UInt32) : (u &&& 2147483647).toNat = u.toNat % 2147483648 := by
  rw [UInt32.toNat_and]
  exact Nat.and_two_pow_sub_one_eq_mod u.toNat 31
/-- a size by its bits -/
theorem z_bits {u w : UInt64} (hw : zf w) (hs : w.toNat < 9223372036854775808) : u &&& 9223372036854775807 ≤ w ↔ zf u ∧ (zV u).natAbs ≤ (zV w).natAbs := by
  rw [UInt64.le_iff_toNat_le, z_and, show w.toNat = w.toNat % 9223372036854775808 by omega]
  have hw2 := hw
  unfold zf at hw2
  rw [z_E] at hw2
  refine ⟨fun h => ?_, fun h => ?_⟩
  · have hu : zf u := by
      unfold zf
      rw [z_E]
      omega
    exact ⟨hu, by rw [z_vabs hu, z_vabs hw]; exact z_mg_le.mp h⟩
  · have h2 := h.2
    rw [z_vabs h.1, z_vabs hw] at h2
    exact z_mg_le.mpr h2
theorem f_bits {u w : UInt32} (hw : ff w) (hs : w.toNat < 2147483648) : u &&& 2147483647 ≤ w ↔ ff u ∧ (fV u).natAbs ≤ (fV w).natAbs := by
  rw [UInt32.le_iff_toNat_le, f_and, show w.toNat = w.toNat % 2147483648 by omega]
  have hw2 := hw
  unfold ff at hw2
  rw [f_E] at hw2
  refine ⟨fun h => ?_, fun h => ?_⟩
  · have hu : ff u := by
      unfold ff
      rw [f_E]
      omega
    exact ⟨hu, by rw [f_vabs hu, f_vabs hw]; exact f_mg_le.mp h⟩
  · have h2 := h.2
    rw [f_vabs h.1, f_vabs hw] at h2
    exact f_mg_le.mpr h2
theorem z_c100 : zf 5057542381537067008 ∧ zV 5057542381537067008 = 2 ^ 1174 := by
  refine ⟨by unfold zf; decide +kernel, by decide +kernel⟩
theorem f_c100 : ff 1904214016 ∧ fV 1904214016 = 2 ^ 1174 := by
  refine ⟨by unfold ff; decide +kernel, by decide +kernel⟩
theorem z_ok {u : UInt64} : u &&& 9223372036854775807 ≤ 5057542381537067008 ↔ zf u ∧ (zV u).natAbs ≤ 2 ^ 1174 := by
  rw [z_bits z_c100.1 (by decide), z_c100.2]
  rfl
theorem f_ok {u : UInt32} : u &&& 2147483647 ≤ 1904214016 ↔ ff u ∧ (fV u).natAbs ≤ 2 ^ 1174 := by
  rw [f_bits f_c100.1 (by decide), f_c100.2]
  rfl
theorem z_n64 {u : UInt64} (h : zf u) : vf_n64 u := by
  show u &&& 9223372036854775807 ≤ 9218868437227405312
  rw [UInt64.le_iff_toNat_le, z_and, show (9218868437227405312 : UInt64).toNat = 9218868437227405312 from rfl]
  unfold zf at h
  rw [z_E] at h
  omega
theorem f_n32 {u : UInt32} (h : ff u) : vf_n32 u := by
  show u &&& 2147483647 ≤ 2139095040
  rw [UInt32.le_iff_toNat_le, f_and, show (2139095040 : UInt32).toNat = 2139095040 from rfl]
  unfold ff at h
  rw [f_E] at h
  omega
theorem z_nan {u : UInt64} (h : zf u) : FP.dIsNaN u = false := by
  obtain ⟨c, q, a1, -⟩ := z_get h
  exact z_notnan a1
theorem f_nan {u : UInt32} (h : ff u) : FP.fIsNaN u = false := by
  obtain ⟨c, q, a1, -⟩ := f_get h
  exact z_notnan a1
theorem z_snl {b : Int64} (h : zf b.toUInt64) : vn_snl2d b = false := by
  have h1 : ¬ (b.toUInt64 &&& 9223372036854775807 > 9218868437227405312) := by
    rw [gt_iff_lt, UInt64.lt_iff_toNat_lt, z_and, show (9218868437227405312 : UInt64).toNat = 9218868437227405312 from rfl]
    unfold zf at h
    rw [z_E] at h
    omega
  show (decide (b.toUInt64 &&& 9223372036854775807 > 9218868437227405312) && _) = false
  rw [decide_eq_false h1, Bool.false_and]
theorem f_sni {b : Int32} (h : ff b.toUInt32) : vn_sni2f b = false := by
  have h1 : ¬ (b.toUInt32 &&& 2147483647 > 2139095040) := by
    rw [gt_iff_lt, UInt32.lt_iff_toNat_lt, f_and, show (2139095040 : UInt32).toNat = 2139095040 from rfl]
    unfold ff at h
    rw [f_E] at h
    omega
  show (decide (b.toUInt32 &&& 2147483647 > 2139095040) && _) = false
  rw [decide_eq_false h1, Bool.false_and]
theorem z_refl {u : UInt64} (h : zf u) : deq u u := (z_deq h h).mpr rfl
theorem f_refl {u : UInt32} (h : ff u) : feq u u := (z_feq h h).mpr rfl
/-! the sign turned, the size -/
theorem z_xor_top {n k : Nat} (h : n < 2 ^ k) : 2 ^ k ^^^ n = 2 ^ k + n := by
  apply Nat.eq_of_testBit_eq
  intro j
  rw [Nat.testBit_xor, Nat.testBit_two_pow]
  rcases Nat.lt_trichotomy j k with c | c | c
  · rw [Nat.testBit_two_pow_add_gt c, decide_eq_false (by omega), Bool.false_xor]
  · subst c
    rw [Nat.testBit_two_pow_add_eq, Nat.testBit_lt_two_pow h]
    simp
  · have h2 : 2 ^ k * 2 ≤ 2 ^ j := by
      rw [← Nat.pow_succ]
      exact Nat.pow_le_pow_right (by decide) c
    rw [Nat.testBit_lt_two_pow (show n < 2 ^ j by omega), Nat.testBit_lt_two_pow (show 2 ^ k + n < 2 ^ j by omega), decide_eq_false (by omega)]
    rfl
theorem z_xor_bit {n k : Nat} (h : n < 2 ^ k * 2) : n ^^^ 2 ^ k = if n < 2 ^ k then n + 2 ^ k else n - 2 ^ k := by
  by_cases c : n < 2 ^ k
  · rw [if_pos c, Nat.xor_comm, z_xor_top c, Nat.add_comm]
  · rw [if_neg c]
    have e : n = 2 ^ k + (n - 2 ^ k) := by omega
    have h2 := z_xor_top (n := n - 2 ^ k) (k := k) (by omega)
    rw [← e] at h2
    have h3 : n ^^^ 2 ^ k = (2 ^ k ^^^ (n - 2 ^ k)) ^^^ 2 ^ k := by rw [h2]
    rw [h3, Nat.xor_comm, ← Nat.xor_assoc, Nat.xor_self, Nat.zero_xor]
theorem z_neg_nat (u : UInt64) : (FP.dneg u).toNat = if u.toNat < 9223372036854775808 then u.toNat + 9223372036854775808 else u.toNat - 9223372036854775808 := by
  unfold FP.dneg
  rw [UInt64.toNat_xor]
  exact z_xor_bit (k := 63) u.toNat_lt
theorem f_neg_nat (u : UInt32) : (FP.fneg u).toNat = if u.toNat < 2147483648 then u.toNat + 2147483648 else u.toNat - 2147483648 := by
  unfold FP.fneg
  rw [UInt32.toNat_xor]
  exact z_xor_bit (k := 31) u.toNat_lt
theorem z_zS (u : UInt64) : zS u = decide (9223372036854775808 ≤ u.toNat) := by
  unfold zS
  rw [z_Sg]
  have := u.toNat_lt
  by_cases c : 9223372036854775808 ≤ u.toNat
  · rw [decide_eq_true c, show u.toNat / 4503599627370496 / 2048 % 2 = 1 by omega]
    rfl
  · rw [decide_eq_false c, show u.toNat / 4503599627370496 / 2048 % 2 = 0 by omega]
    rfl
theorem f_fS (u : UInt32) : fS u = decide (2147483648 ≤ u.toNat) := by
  unfold fS
  rw [f_Sg]
  have := u.toNat_lt
  by_cases c : 2147483648 ≤ u.toNat
  · rw [decide_eq_true c, show u.toNat / 8388608 / 256 % 2 = 1 by omega]
    rfl
  · rw [decide_eq_false c, show u.toNat / 8388608 / 256 % 2 = 0 by omega]
    rfl
theorem z_sg_not (s : Bool) (x : Nat) : FP.Core.signed (!s) x = -FP.Core.signed s x := by
  cases s
  · rfl
  · show (x : Int) = - -(x : Int)
    omega
theorem z_mod_mg {u v : UInt64} (h : u.toNat % 9223372036854775808 = v.toNat % 9223372036854775808) : z_mg FP.Core.b64 u.toNat = z_mg FP.Core.b64 v.toNat ∧ (zf u ↔ zf v) := by
  refine ⟨Nat.le_antisymm (z_mg_le.mp (by omega)) (z_mg_le.mp (by omega)), ?_⟩
  unfold zf
  rw [z_E, z_E, show u.toNat / 4503599627370496 % 2048 = v.toNat / 4503599627370496 % 2048 by omega]
theorem f_mod_mg {u v : UInt32} (h : u.toNat % 2147483648 = v.toNat % 2147483648) : z_mg FP.Core.b32 u.toNat = z_mg FP.Core.b32 v.toNat ∧ (ff u ↔ ff v) := by
  refine ⟨Nat.le_antisymm (f_mg_le.mp (by omega)) (f_mg_le.mp (by omega)), ?_⟩
  unfold ff
  rw [f_E, f_E, show u.toNat / 8388608 % 256 = v.toNat / 8388608 % 256 by omega]
theorem z_dneg {u : UInt64} (h : zf u) : zf (FP.dneg u) ∧ zV (FP.dneg u) = -zV u ∧ zS (FP.dneg u) = !zS u := by
  have e := z_neg_nat u
  have hl := u.toNat_lt
  obtain ⟨m1, m2⟩ := z_mod_mg (u := FP.dneg u) (v := u) (by rw [e]; split <;> omega)
  have hs : zS (FP.dneg u) = !zS u := by
    rw [z_zS, z_zS, e]
    by_cases c : u.toNat < 9223372036854775808
    · rw [if_pos c, decide_eq_true (by omega), decide_eq_false (by omega)]
      rfl
    · rw [if_neg c, decide_eq_false (by omega), decide_eq_true (by omega)]
      rfl
  refine ⟨m2.mpr h, ?_, hs⟩
  rw [z_val (m2.mpr h), z_val h, hs, m1, z_sg_not]
theorem f_fneg {u : UInt32} (h : ff u) : ff (FP.fneg u) ∧ fV (FP.fneg u) = -fV u ∧ fS (FP.fneg u) = !fS u := by
  have e := f_neg_nat u
  have hl := u.toNat_lt
  obtain ⟨m1, m2⟩ := f_mod_mg (u := FP.fneg u) (v := u) (by rw [e]; split <;> omega)
  have hs : fS (FP.fneg u) = !fS u := by
    rw [f_fS, f_fS, e]
    by_cases c : u.toNat < 2147483648
    · rw [if_pos c, decide_eq_true (by omega), decide_eq_false (by omega)]
      rfl
    · rw [if_neg c, decide_eq_false (by omega), decide_eq_true (by omega)]
      rfl
  refine ⟨m2.mpr h, ?_, hs⟩
  rw [f_val (m2.mpr h), f_val h, hs, m1, z_sg_not]
theorem z_mAbs {u : UInt64} (h : zf u) : zf (mAbs u) ∧ zV (mAbs u) = ((zV u).natAbs : Int) ∧ zS (mAbs u) = false := by
  have e : (mAbs u).toNat = u.toNat % 9223372036854775808 := z_and u
  obtain ⟨m1, m2⟩ := z_mod_mg (u := mAbs u) (v := u) (by rw [e]; omega)
  have hs : zS (mAbs u) = false := by
    rw [z_zS, e, decide_eq_false (by omega)]
  refine ⟨m2.mpr h, ?_, hs⟩
  rw [z_val (m2.mpr h), hs, m1, z_vabs h]
  rfl
theorem f_mAbsF {u : UInt32} (h : ff u) : ff (mAbsF u) ∧ fV (mAbsF u) = ((fV u).natAbs : Int) ∧ fS (mAbsF u) = false := by
  have e : (mAbsF u).toNat = u.toNat % 2147483648 := f_and u
  obtain ⟨m1, m2⟩ := f_mod_mg (u := mAbsF u) (v := u) (by rw [e]; omega)
  have hs : fS (mAbsF u) = false := by
    rw [f_fS, e, decide_eq_false (by omega)]
  refine ⟨m2.mpr h, ?_, hs⟩
  rw [f_val (m2.mpr h), hs, m1, f_vabs h]
  rfl
/-- the sign of what isn't zero -/
theorem z_sgn {u : UInt64} (h : zf u) (h0 : zV u ≠ 0) : zS u = decide (zV u < 0) := by
  have := z_val h
  cases hs : zS u
  · rw [hs] at this
    have h2 : zV u = (z_mg FP.Core.b64 u.toNat : Int) := this
    rw [decide_eq_false (by omega)]
  · rw [hs] at this
    have h2 : zV u = -(z_mg FP.Core.b64 u.toNat : Int) := this
    rw [decide_eq_true (by omega)]
theorem f_sgn {u : UInt32} (h : ff u) (h0 : fV u ≠ 0) : fS u = decide (fV u < 0) := by
  have := f_val h
  cases hs : fS u
  · rw [hs] at this
    have h2 : fV u = (z_mg FP.Core.b32 u.toNat : Int) := this
    rw [decide_eq_false (by omega)]
  · rw [hs] at this
    have h2 : fV u = -(z_mg FP.Core.b32 u.toNat : Int) := this
    rw [decide_eq_true (by omega)]
theorem z_pos {u : UInt64} (h : zf u) (h0 : zS u = false) : 0 ≤ zV u := by
  rw [z_val h, h0]
  exact Int.natCast_nonneg _
theorem z_neg {u : UInt64} (h : zf u) (h0 : zS u = true) : zV u ≤ 0 := by
  rw [z_val h, h0]
  show -((z_mg FP.Core.b64 u.toNat : Nat) : Int) ≤ 0
  omega
theorem z_0 : zf FP.dconst0 ∧ zV FP.dconst0 = 0 ∧ zS FP.dconst0 = false := by
  refine ⟨by unfold zf; decide +kernel, by decide +kernel, by decide +kernel⟩
theorem z_zero {u : UInt64} (h : zf u) (hv : zV u = 0) (hs : zS u = false) : u = FP.dconst0 := z_ext h z_0.1 (hs.trans z_0.2.2.symm) (hv.trans z_0.2.1.symm)
/-- bounds of a rounded number -/
theorem z_rs_le {p m b j : Nat} {v : Int} (hp : 1 ≤ p) (hb : b ≤ 2 ^ p) (hj : m ≤ j) (h : v.natAbs ≤ b * 2 ^ j) : (z_rs p m v).natAbs ≤ b * 2 ^ j := by
  unfold z_rs
  have := z_rn_le hp hb hj h
  split <;> omega
theorem z_rs_sgn {p m : Nat} {v : Int} : (0 ≤ v → 0 ≤ z_rs p m v) ∧ (v ≤ 0 → z_rs p m v ≤ 0) ∧ z_rs p m (-v) = -z_rs p m v := by
  unfold z_rs
  refine ⟨fun h => ?_, fun h => ?_, ?_⟩
  · rw [if_neg (by omega)]; omega
  · by_cases c : v = 0
    · subst c
      rw [if_neg (by omega), show (0 : Int).natAbs = 0 from rfl, z_rn_zero]
      exact Int.le_refl _
    · rw [if_pos (by omega)]; omega
  · rw [Int.natAbs_neg]
    by_cases c : v = 0
    · subst c
      rw [if_neg (by omega), if_neg (by omega), show (0 : Int).natAbs = 0 from rfl, z_rn_zero]
      rfl
    · by_cases c2 : v < 0
      · rw [if_pos c2, if_neg (by omega)]; omega
      · rw [if_neg c2, if_pos (by omega)]
theorem z_rs_err {p m j : Nat} {v : Int} (hp : 1 ≤ p) (hj : m ≤ j) (h : v.natAbs < 2 ^ (j + p)) : 2 * (z_rs p m v - v).natAbs ≤ 2 ^ j := by
  have := z_rn_err hp hj h
  unfold z_rs
  generalize 2 ^ j = P at *
  split <;> omega
/-- a - b is a + (-b) -/
theorem z_sub_neg {a b : UInt64} (ha : zf a) (hb : zf b) (h : (zV a - zV b).natAbs ≤ 2 ^ 2097) : FP.dsub a b = FP.dadd a (FP.dneg b) := by
  obtain ⟨n1, n2, n3⟩ := z_dneg hb
  obtain ⟨s1, s2, s3⟩ := z_dsub ha hb h
  obtain ⟨t1, t2, t3⟩ := z_dadd ha n1 (by rw [n2]; exact h)
  refine z_ext s1 t1 ?_ ?_
  · rw [s3, t3, n2, n3]; rfl
  · rw [s2, t2, n2]; rfl
theorem f_sub_neg {a b : UInt32} (ha : ff a) (hb : ff b) (h : (fV a - fV b).natAbs ≤ 2 ^ 1201) : FP.fsub a b = FP.fadd a (FP.fneg b) := by
  obtain ⟨n1, n2, n3⟩ := f_fneg hb
  obtain ⟨s1, s2, s3⟩ := f_fsub ha hb h
  obtain ⟨t1, t2, t3⟩ := f_fadd ha n1 (by rw [n2]; exact h)
  refine f_ext s1 t1 ?_ ?_
  · rw [s3, t3, n2, n3]; rfl
  · rw [s2, t2, n2]; rfl
theorem f_d2f_neg {a : UInt64} (ha : zf a) (h : (zV a).natAbs ≤ 2 ^ 1201) : FP.d2f (FP.dneg a) = FP.fneg (FP.d2f a) := by
  obtain ⟨n1, n2, n3⟩ := z_dneg ha
  obtain ⟨s1, s2, s3⟩ := f_d2f ha h
  obtain ⟨t1, t2, t3⟩ := f_d2f n1 (by rw [n2]; omega)
  obtain ⟨r1, r2, r3⟩ := f_fneg s1
  refine f_ext t1 r1 ?_ ?_
  · rw [t3, r3, n3, s3]
  · rw [t2, r2, n2, s2]
    exact z_rs_sgn.2.2
