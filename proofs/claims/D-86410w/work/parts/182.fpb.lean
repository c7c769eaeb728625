/-! Numbers: rounding of a datum; values in units of 2 to the -1074. By hand -/
theorem z_leading {c : Nat} (h : c ≠ 0) : FP.Core.leading c 1 = (c.log2 : Int) := by
  have h1 : Nat.log2 1 = 0 := by decide
  show (if 1 * 2 ^ ((c.log2 : Int) - ((Nat.log2 1 : Nat) : Int)).toNat ≤ c * 2 ^ (-((c.log2 : Int) - ((Nat.log2 1 : Nat) : Int))).toNat then ((c.log2 : Int) - ((Nat.log2 1 : Nat) : Int)) else ((c.log2 : Int) - ((Nat.log2 1 : Nat) : Int)) - 1) = (c.log2 : Int)
  rw [h1, if_pos]
  · omega
  · rw [show ((c.log2 : Int) - ((0 : Nat) : Int)).toNat = c.log2 by omega, show (-((c.log2 : Int) - ((0 : Nat) : Int))).toNat = 0 by omega]
    have := z_log_le h
    omega
theorem z_log_scale {c k : Nat} (h : c ≠ 0) : (c * 2 ^ k).log2 = c.log2 + k := by
  have hp := Nat.two_pow_pos k
  have hne : c * 2 ^ k ≠ 0 := Nat.mul_ne_zero h (by omega)
  rw [Nat.log2_eq_iff hne]
  refine ⟨?_, ?_⟩
  · rw [Nat.pow_add]
    exact Nat.mul_le_mul_right _ (z_log_le h)
  · rw [show c.log2 + k + 1 = (c.log2 + 1) + k by omega, Nat.pow_add]
    exact Nat.mul_lt_mul_of_pos_right Nat.lt_log2_self hp
theorem z_powb {p c' : Nat} {q' Q E : Int} (h1 : 2 ^ (p - 1) ≤ c') (hQ : -E ≤ Q) (h : c' * 2 ^ (q' + E).toNat ≤ 2 ^ (p - 1) * 2 ^ (Q + E).toNat) : q' ≤ Q := by
  refine Int.not_lt.mp fun c => ?_
  have e : (q' + E).toNat = (Q + E).toNat + 1 + (q' - Q - 1).toNat := by omega
  have h2 : 2 ^ (p - 1) * (2 ^ (Q + E).toNat * 2) ≤ c' * 2 ^ (q' + E).toNat := by
    refine Nat.mul_le_mul h1 ?_
    rw [← Nat.pow_succ, e]
    exact Nat.pow_le_pow_right (by decide) (by omega)
  have h3 := Nat.two_pow_pos (Q + E).toNat
  have h4 := Nat.two_pow_pos (p - 1)
  have h5 : 0 < 2 ^ (p - 1) * 2 ^ (Q + E).toNat := Nat.mul_pos h4 h3
  rw [← Nat.mul_assoc] at h2
  omega
theorem z_round {f : FP.Core.Fmt} (hf : f = FP.Core.b32 ∨ f = FP.Core.b64) {s : Bool} {c : Nat} {q E : Int} (hE : 1074 ≤ E) (hq : -E ≤ q) (hz : c * 2 ^ (q + E).toNat ≤ 2 ^ (f.p - 1) * 2 ^ (f.qmax + E).toNat) : ∃ (c' : Nat) (q' : Int), FP.Core.round f (.fin s c q) = .fin s c' q' ∧ FP.Core.fits f (.fin s c' q') ∧ c' * 2 ^ (q' + E).toNat = z_rn f.p (f.qmin + E).toNat (c * 2 ^ (q + E).toNat) := by
  obtain ⟨f1, f2, f3, f4, f5, f6, f7, f8⟩ := z_fmt hf
  by_cases c0 : c = 0
  · subst c0
    refine ⟨0, f.qmin, rfl, ⟨Nat.two_pow_pos _, by omega, by omega, Or.inl rfl⟩, ?_⟩
    rw [Nat.zero_mul, Nat.zero_mul, z_rn_zero]
  · have hle := z_rn_le (m := (f.qmin + E).toNat) f7 (show 2 ^ (f.p - 1) ≤ 2 ^ f.p from Nat.pow_le_pow_right (by decide) (by omega)) (show (f.qmin + E).toNat ≤ (f.qmax + E).toNat by omega) hz
    have e0 : FP.Core.round f (.fin s c q) = FP.Core.settle f s (FP.Core.nearest (FP.Core.unitsNum c q (FP.Core.quantum f c 1 q)) (FP.Core.unitsDen 1 q (FP.Core.quantum f c 1 q))) (FP.Core.quantum f c 1 q) := by
      show (if c = 0 then _ else _) = _
      rw [if_neg c0]
      rfl
    have eq0 : FP.Core.quantum f c 1 q = max f.qmin ((c.log2 : Int) + q - ((f.p : Int) - 1)) := by
      unfold FP.Core.quantum
      rw [z_leading c0]
    rw [e0]
    generalize FP.Core.quantum f c 1 q = Q at eq0
    have hl := z_log_scale (k := (q + E).toNat) c0
    have hz0 : c * 2 ^ (q + E).toNat ≠ 0 := Nat.mul_ne_zero c0 (by have := Nat.two_pow_pos (q + E).toNat; omega)
    have et : z_sh f.p (f.qmin + E).toNat (c * 2 ^ (q + E).toNat) = (Q + E).toNat := by
      unfold z_sh
      rw [hl]
      omega
    have en : FP.Core.nearest (FP.Core.unitsNum c q Q) (FP.Core.unitsDen 1 q Q) = FP.Core.nearest (c * 2 ^ (q + E).toNat) (2 ^ (Q + E).toNat) := by
      unfold FP.Core.unitsNum FP.Core.unitsDen
      by_cases c1 : q ≤ Q
      · rw [← z_near_scale (k := 2 ^ (q + E).toNat) (Nat.two_pow_pos _), show (q - Q).toNat = 0 by omega, Nat.pow_zero, Nat.mul_one, Nat.one_mul, ← Nat.pow_add, show (Q - q).toNat + (q + E).toNat = (Q + E).toNat by omega]
      · rw [← z_near_scale (k := 2 ^ (Q + E).toNat) (Nat.two_pow_pos _), show (Q - q).toNat = 0 by omega, Nat.pow_zero, Nat.one_mul, Nat.mul_assoc, ← Nat.pow_add, show (q - Q).toNat + (Q + E).toNat = (q + E).toNat by omega]
    rw [en]
    have er : z_rn f.p (f.qmin + E).toNat (c * 2 ^ (q + E).toNat) = FP.Core.nearest (c * 2 ^ (q + E).toNat) (2 ^ (Q + E).toNat) * 2 ^ (Q + E).toNat := by
      unfold z_rn
      rw [et]
    rw [er] at hle ⊢
    have hN : FP.Core.nearest (c * 2 ^ (q + E).toNat) (2 ^ (Q + E).toNat) ≤ 2 ^ f.p := by
      refine z_near_le (Nat.two_pow_pos _) ?_
      rw [← Nat.pow_add]
      refine Nat.le_trans (Nat.le_of_lt Nat.lt_log2_self) (Nat.pow_le_pow_right (by decide) ?_)
      rw [hl]
      omega
    have hlo : Q = f.qmin ∨ f.tails ≤ FP.Core.nearest (c * 2 ^ (q + E).toNat) (2 ^ (Q + E).toNat) := by
      by_cases c2 : Q = f.qmin
      · exact Or.inl c2
      · refine Or.inr (z_near_ge (Nat.two_pow_pos _) ?_)
        rw [f8, ← Nat.pow_add]
        refine Nat.le_trans (Nat.pow_le_pow_right (by decide) ?_) (z_log_le hz0)
        rw [hl]
        omega
    generalize FP.Core.nearest (c * 2 ^ (q + E).toNat) (2 ^ (Q + E).toNat) = N at *
    by_cases c3 : N < 2 ^ f.p
    · have hQ : Q ≤ f.qmax := by
        rcases hlo with h | h
        · omega
        · exact z_powb (p := f.p) (E := E) (by omega) (by omega) hle
      refine ⟨N, Q, ?_, ⟨c3, by omega, hQ, hlo⟩, rfl⟩
      show (if N < 2 ^ f.p then (if Q ≤ f.qmax then _ else _) else _) = _
      rw [if_pos c3, if_pos hQ]
    · have c4 : N = 2 ^ f.p := by omega
      have ev : f.tails * 2 ^ (Q + 1 + E).toNat = N * 2 ^ (Q + E).toNat := by
        rw [c4, f2, show (Q + 1 + E).toNat = (Q + E).toNat + 1 by omega, Nat.pow_succ, Nat.mul_comm 2 f.tails, Nat.mul_assoc, Nat.mul_comm 2 (2 ^ (Q + E).toNat)]
      have hQ : Q + 1 ≤ f.qmax := by
        refine z_powb (p := f.p) (E := E) (c' := f.tails) (by omega) (by omega) ?_
        rw [ev]
        exact hle
      refine ⟨f.tails, Q + 1, ?_, ⟨by omega, by omega, hQ, Or.inr (Nat.le_refl _)⟩, ev⟩
      show (if N < 2 ^ f.p then _ else (if Q + 1 ≤ f.qmax then _ else _)) = _
      rw [if_neg c3, if_pos hQ]
/-- a rounded number with its sign -/
def z_rs (p m : Nat) (v : Int) : Int := if v < 0 then -(z_rn p m v.natAbs : Int) else (z_rn p m v.natAbs : Int)
theorem z_sg_nat (s : Bool) (x : Nat) : (FP.Core.signed s x).natAbs = x := by
  cases s
  · show ((x : Int)).natAbs = x
    omega
  · show (-(x : Int)).natAbs = x
    omega
theorem z_rs_sg {p m : Nat} (s : Bool) (x : Nat) : z_rs p m (FP.Core.signed s x) = FP.Core.signed s (z_rn p m x) := by
  unfold z_rs
  rw [z_sg_nat]
  cases s
  · show (if (x : Int) < 0 then _ else _) = ((z_rn p m x : Nat) : Int)
    rw [if_neg (by omega)]
  · show (if -(x : Int) < 0 then _ else _) = -((z_rn p m x : Nat) : Int)
    by_cases h : x = 0
    · subst h
      rw [if_neg (by omega), z_rn_zero]
      rfl
    · rw [if_pos (by omega)]
theorem z_sg_mul (s : Bool) (x k : Nat) : FP.Core.signed s (x * k) = FP.Core.signed s x * (k : Int) := by
  cases s
  · show ((x * k : Nat) : Int) = (x : Int) * (k : Int)
    exact Int.natCast_mul x k
  · show -((x * k : Nat) : Int) = -(x : Int) * (k : Int)
    rw [Int.natCast_mul, Int.neg_mul]
theorem z_units {c : Nat} {q e : Int} (h1 : -1074 ≤ e) (h2 : e ≤ q) : FP.Core.inUnits c q e * 2 ^ (e + 1074).toNat = c * 2 ^ (q + 1074).toNat := by
  unfold FP.Core.inUnits
  rw [Nat.mul_assoc, ← Nat.pow_add, show (q - e).toNat + (e + 1074).toNat = (q + 1074).toNat by omega]
/-- a sum, rounded -/
theorem z_sum {f : FP.Core.Fmt} (hf : f = FP.Core.b32 ∨ f = FP.Core.b64) {s t : Bool} {c d : Nat} {q r : Int} {V : Int} (hq : -1074 ≤ q) (hr : -1074 ≤ r) (hV : V = FP.Core.signed s (c * 2 ^ (q + 1074).toNat) + FP.Core.signed t (d * 2 ^ (r + 1074).toNat)) (hz : V.natAbs ≤ 2 ^ (f.p - 1) * 2 ^ (f.qmax + 1074).toNat) : ∃ (c' : Nat) (q' : Int), FP.Core.round f (FP.Core.exactSum (.fin s c q) (.fin t d r)) = .fin (if V = 0 then s && t else decide (V < 0)) c' q' ∧ FP.Core.fits f (.fin (if V = 0 then s && t else decide (V < 0)) c' q') ∧ FP.Core.signed (if V = 0 then s && t else decide (V < 0)) (c' * 2 ^ (q' + 1074).toNat) = z_rs f.p (f.qmin + 1074).toNat V := by
  have hm : -1074 ≤ min q r := by omega
  have eU : V = FP.Core.sumUnits s c q t d r (min q r) * ((2 ^ (min q r + 1074).toNat : Nat) : Int) := by
    unfold FP.Core.sumUnits
    rw [hV, Int.add_mul, ← z_sg_mul, ← z_sg_mul, z_units hm (by omega), z_units hm (by omega)]
  have hp : (0 : Int) < ((2 ^ (min q r + 1074).toNat : Nat) : Int) := by
    have := Nat.two_pow_pos (min q r + 1074).toNat
    omega
  have es : FP.Core.sumSign s t (FP.Core.sumUnits s c q t d r (min q r)) = (if V = 0 then s && t else decide (V < 0)) := by
    unfold FP.Core.sumSign
    rw [eU]
    generalize FP.Core.sumUnits s c q t d r (min q r) = U
    generalize ((2 ^ (min q r + 1074).toNat : Nat) : Int) = P at hp
    by_cases c1 : U = 0
    · subst c1
      rw [if_pos rfl, Int.zero_mul, if_pos rfl]
    · rw [if_neg c1, if_neg (Int.mul_ne_zero c1 (by omega))]
      congr 1
      refine propext ⟨fun h => Int.mul_neg_of_neg_of_pos h hp, fun h => ?_⟩
      refine Int.not_le.mp fun h2 => ?_
      have := Int.mul_nonneg h2 (Int.le_of_lt hp)
      omega
  have en : V.natAbs = (FP.Core.sumUnits s c q t d r (min q r)).natAbs * 2 ^ (min q r + 1074).toNat := by
    rw [eU, Int.natAbs_mul, Int.natAbs_natCast]
  rw [en] at hz
  obtain ⟨c', q', h1, h2, h3⟩ := z_round (s := (if V = 0 then s && t else decide (V < 0))) (E := 1074) hf (by omega) hm hz
  have ee : FP.Core.exactSum (.fin s c q) (.fin t d r) = .fin (FP.Core.sumSign s t (FP.Core.sumUnits s c q t d r (min q r))) (FP.Core.sumUnits s c q t d r (min q r)).natAbs (min q r) := rfl
  rw [ee, es]
  refine ⟨c', q', h1, h2, ?_⟩
  rw [h3, ← en]
  unfold z_rs
  by_cases c0 : V = 0
  · subst c0
    rw [if_pos rfl, if_neg (by omega), show (0 : Int).natAbs = 0 from rfl, z_rn_zero]
    cases s <;> cases t <;> rfl
  · rw [if_neg c0]
    by_cases c1 : V < 0
    · rw [if_pos c1, decide_eq_true c1]
      rfl
    · rw [if_neg c1, decide_eq_false c1]
      rfl
