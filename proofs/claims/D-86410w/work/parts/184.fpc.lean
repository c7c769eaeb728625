/-! Numbers: doubles and floats by their values in units of 2 to the -1074. By hand -/
def z_v (d : FP.Core.Datum) : Int := match d with | .fin s c q => FP.Core.signed s (c * 2 ^ (q + 1074).toNat) | _ => 0
/-- finite; the value; the sign: of a double's bits, of a float's -/
def zf (u : UInt64) : Prop := FP.Core.fieldE FP.Core.b64 u.toNat ≠ 2047
def zV (u : UInt64) : Int := z_v (FP.Core.decode FP.Core.b64 u.toNat)
def zS (u : UInt64) : Bool := FP.Core.fieldS FP.Core.b64 u.toNat
def ff (u : UInt32) : Prop := FP.Core.fieldE FP.Core.b32 u.toNat ≠ 255
def fV (u : UInt32) : Int := z_v (FP.Core.decode FP.Core.b32 u.toNat)
def fS (u : UInt32) : Bool := FP.Core.fieldS FP.Core.b32 u.toNat
theorem z_k64 : FP.Core.b64.exps = 2048 ∧ FP.Core.b64.tails = 4503599627370496 ∧ FP.Core.b64.p = 53 ∧ FP.Core.b64.qmin = -1074 ∧ FP.Core.b64.qmax = 971 := by decide
theorem z_k32 : FP.Core.b32.exps = 256 ∧ FP.Core.b32.tails = 8388608 ∧ FP.Core.b32.p = 24 ∧ FP.Core.b32.qmin = -149 ∧ FP.Core.b32.qmax = 104 := by decide
theorem z_lt64 (u : UInt64) : u.toNat < 2 * FP.Core.b64.exps * FP.Core.b64.tails := by
  have := u.toNat_lt
  rw [z_k64.1, z_k64.2.1]
  omega
theorem z_lt32 (u : UInt32) : u.toNat < 2 * FP.Core.b32.exps * FP.Core.b32.tails := by
  have := u.toNat_lt
  rw [z_k32.1, z_k32.2.1]
  omega
theorem z_of64 {n : Nat} (h : n < 2 * FP.Core.b64.exps * FP.Core.b64.tails) : (UInt64.ofNat n).toNat = n := by
  rw [z_k64.1, z_k64.2.1] at h
  exact UInt64.toNat_ofNat_of_lt' (by omega)
theorem z_of32 {n : Nat} (h : n < 2 * FP.Core.b32.exps * FP.Core.b32.tails) : (UInt32.ofNat n).toNat = n := by
  rw [z_k32.1, z_k32.2.1] at h
  exact UInt32.toNat_ofNat_of_lt' (by omega)
theorem z_fin {f : FP.Core.Fmt} (hf : f = FP.Core.b32 ∨ f = FP.Core.b64) {n : Nat} : FP.Core.fieldE f n ≠ f.exps - 1 ↔ ∃ c q, FP.Core.decode f n = .fin (FP.Core.fieldS f n) c q ∧ FP.Core.fits f (.fin (FP.Core.fieldS f n) c q) := by
  refine ⟨fun h => ?_, fun h e => ?_⟩
  · by_cases c2 : FP.Core.fieldE f n = 0
    · have hd : FP.Core.decode f n = .fin (FP.Core.fieldS f n) (FP.Core.fieldT f n) f.qmin := by
        unfold FP.Core.decode
        rw [if_neg h, if_pos c2]
      exact ⟨_, _, hd, (z_fits hf hd).1⟩
    · have hd : FP.Core.decode f n = .fin (FP.Core.fieldS f n) (f.tails + FP.Core.fieldT f n) (f.qmin + ((FP.Core.fieldE f n : Int) - 1)) := by
        unfold FP.Core.decode
        rw [if_neg h, if_neg c2]
      exact ⟨_, _, hd, (z_fits hf hd).1⟩
  · obtain ⟨c, q, h, -⟩ := h
    unfold FP.Core.decode at h
    rw [if_pos e] at h
    split at h <;> cases h
theorem z_get {u : UInt64} (h : zf u) : ∃ c q, FP.Core.decode FP.Core.b64 u.toNat = .fin (zS u) c q ∧ FP.Core.fits FP.Core.b64 (.fin (zS u) c q) ∧ zV u = FP.Core.signed (zS u) (c * 2 ^ (q + 1074).toNat) ∧ -1074 ≤ q ∧ q ≤ 971 ∧ c < 9007199254740992 := by
  obtain ⟨c, q, h1, h2⟩ := (z_fin (Or.inr rfl)).mp (show FP.Core.fieldE FP.Core.b64 u.toNat ≠ FP.Core.b64.exps - 1 from h)
  refine ⟨c, q, h1, h2, ?_, ?_⟩
  · unfold zV
    rw [h1]
    rfl
  · obtain ⟨g1, g2, g3, g4⟩ := h2
    obtain ⟨k1, k2, k3, k4, k5⟩ := z_k64
    rw [k4] at g2
    rw [k5] at g3
    exact ⟨g2, g3, g1⟩
theorem f_get {u : UInt32} (h : ff u) : ∃ c q, FP.Core.decode FP.Core.b32 u.toNat = .fin (fS u) c q ∧ FP.Core.fits FP.Core.b32 (.fin (fS u) c q) ∧ fV u = FP.Core.signed (fS u) (c * 2 ^ (q + 1074).toNat) ∧ -149 ≤ q ∧ q ≤ 104 ∧ c < 16777216 := by
  obtain ⟨c, q, h1, h2⟩ := (z_fin (Or.inl rfl)).mp (show FP.Core.fieldE FP.Core.b32 u.toNat ≠ FP.Core.b32.exps - 1 from h)
  refine ⟨c, q, h1, h2, ?_, ?_⟩
  · unfold fV
    rw [h1]
    rfl
  · obtain ⟨g1, g2, g3, g4⟩ := h2
    obtain ⟨k1, k2, k3, k4, k5⟩ := z_k32
    rw [k4] at g2
    rw [k5] at g3
    exact ⟨g2, g3, g1⟩
theorem z_put {s : Bool} {c : Nat} {q : Int} (h : FP.Core.fits FP.Core.b64 (.fin s c q)) : zf (UInt64.ofNat (FP.Core.encode FP.Core.b64 (.fin s c q))) ∧ zS (UInt64.ofNat (FP.Core.encode FP.Core.b64 (.fin s c q))) = s ∧ zV (UInt64.ofNat (FP.Core.encode FP.Core.b64 (.fin s c q))) = FP.Core.signed s (c * 2 ^ (q + 1074).toNat) := by
  obtain ⟨h1, h2, h3⟩ := z_dec_enc (Or.inr rfl) h
  unfold zf zS zV
  rw [z_of64 h2]
  refine ⟨(z_fin (Or.inr rfl)).mpr ⟨c, q, ?_, ?_⟩, h3, ?_⟩
  · rw [h3]; exact h1
  · rw [h3]; exact h
  · rw [h1]; rfl
theorem f_put {s : Bool} {c : Nat} {q : Int} (h : FP.Core.fits FP.Core.b32 (.fin s c q)) : ff (UInt32.ofNat (FP.Core.encode FP.Core.b32 (.fin s c q))) ∧ fS (UInt32.ofNat (FP.Core.encode FP.Core.b32 (.fin s c q))) = s ∧ fV (UInt32.ofNat (FP.Core.encode FP.Core.b32 (.fin s c q))) = FP.Core.signed s (c * 2 ^ (q + 1074).toNat) := by
  obtain ⟨h1, h2, h3⟩ := z_dec_enc (Or.inl rfl) h
  unfold ff fS fV
  rw [z_of32 h2]
  refine ⟨(z_fin (Or.inl rfl)).mpr ⟨c, q, ?_, ?_⟩, h3, ?_⟩
  · rw [h3]; exact h1
  · rw [h3]; exact h
  · rw [h1]; rfl
theorem z_sg_inj {s : Bool} {x y : Nat} (h : FP.Core.signed s x = FP.Core.signed s y) : x = y := by
  have := congrArg Int.natAbs h
  rwa [z_sg_nat, z_sg_nat] at this
theorem z_ext {a b : UInt64} (ha : zf a) (hb : zf b) (hs : zS a = zS b) (hv : zV a = zV b) : a = b := by
  obtain ⟨c, q, a1, a2, a3, -⟩ := z_get ha
  obtain ⟨d, r, b1, b2, b3, -⟩ := z_get hb
  rw [a3, b3, hs] at hv
  obtain ⟨e1, e2⟩ := z_uniq (Or.inr rfl) a2 b2 (z_sg_inj hv)
  have h1 := z_enc_dec (Or.inr rfl) (z_lt64 a) (by rw [a1]; exact fun h => by cases h)
  have h2 := z_enc_dec (Or.inr rfl) (z_lt64 b) (by rw [b1]; exact fun h => by cases h)
  rw [a1, hs, e1, e2] at h1
  rw [b1] at h2
  exact UInt64.toNat_inj.mp (h1.symm.trans h2)
theorem f_ext {a b : UInt32} (ha : ff a) (hb : ff b) (hs : fS a = fS b) (hv : fV a = fV b) : a = b := by
  obtain ⟨c, q, a1, a2, a3, -⟩ := f_get ha
  obtain ⟨d, r, b1, b2, b3, -⟩ := f_get hb
  rw [a3, b3, hs] at hv
  obtain ⟨e1, e2⟩ := z_uniq (Or.inl rfl) a2 b2 (z_sg_inj hv)
  have h1 := z_enc_dec (Or.inl rfl) (z_lt32 a) (by rw [a1]; exact fun h => by cases h)
  have h2 := z_enc_dec (Or.inl rfl) (z_lt32 b) (by rw [b1]; exact fun h => by cases h)
  rw [a1, hs, e1, e2] at h1
  rw [b1] at h2
  exact UInt32.toNat_inj.mp (h1.symm.trans h2)
theorem z_bd64 : 2 ^ (FP.Core.b64.p - 1) * 2 ^ (FP.Core.b64.qmax + 1074).toNat = 2 ^ 2097 := by
  obtain ⟨k1, k2, k3, k4, k5⟩ := z_k64
  rw [k3, k5, ← Nat.pow_add]
  rfl
theorem z_bd32 : 2 ^ (FP.Core.b32.p - 1) * 2 ^ (FP.Core.b32.qmax + 1074).toNat = 2 ^ 1201 := by
  obtain ⟨k1, k2, k3, k4, k5⟩ := z_k32
  rw [k3, k5, ← Nat.pow_add]
  rfl
theorem z_m64 : (FP.Core.b64.qmin + 1074).toNat = 0 := by decide
theorem z_m32 : (FP.Core.b32.qmin + 1074).toNat = 925 := by decide
/-- the sign of a sum -/
def z_ss (s t : Bool) (V : Int) : Bool := if V = 0 then s && t else decide (V < 0)
theorem z_dadd {a b : UInt64} (ha : zf a) (hb : zf b) (h : (zV a + zV b).natAbs ≤ 2 ^ 2097) : zf (FP.dadd a b) ∧ zV (FP.dadd a b) = z_rs 53 0 (zV a + zV b) ∧ zS (FP.dadd a b) = z_ss (zS a) (zS b) (zV a + zV b) := by
  obtain ⟨c, q, a1, a2, a3, a4, -⟩ := z_get ha
  obtain ⟨d, r, b1, b2, b3, b4, -⟩ := z_get hb
  rw [← z_bd64] at h
  obtain ⟨c', q', h1, h2, h3⟩ := z_sum (Or.inr rfl) a4 b4 (V := zV a + zV b) (by rw [a3, b3]) h
  obtain ⟨g1, g2, g3⟩ := z_put h2
  have e : FP.dadd a b = UInt64.ofNat (FP.Core.encode FP.Core.b64 (.fin (if zV a + zV b = 0 then zS a && zS b else decide (zV a + zV b < 0)) c' q')) := by
    show UInt64.ofNat (FP.Core.encode FP.Core.b64 (FP.Core.round FP.Core.b64 (FP.Core.exactSum (FP.Core.decode FP.Core.b64 a.toNat) (FP.Core.decode FP.Core.b64 b.toNat)))) = _
    rw [a1, b1, h1]
  rw [e]
  exact ⟨g1, g3.trans (by rw [h3, z_m64]; rfl), g2⟩
theorem z_dsub {a b : UInt64} (ha : zf a) (hb : zf b) (h : (zV a - zV b).natAbs ≤ 2 ^ 2097) : zf (FP.dsub a b) ∧ zV (FP.dsub a b) = z_rs 53 0 (zV a - zV b) ∧ zS (FP.dsub a b) = z_ss (zS a) (!zS b) (zV a - zV b) := by
  obtain ⟨c, q, a1, a2, a3, a4, -⟩ := z_get ha
  obtain ⟨d, r, b1, b2, b3, b4, -⟩ := z_get hb
  rw [← z_bd64] at h
  obtain ⟨c', q', h1, h2, h3⟩ := z_sum (Or.inr rfl) (s := zS a) (t := !zS b) (c := c) (d := d) a4 b4 (V := zV a - zV b) (by rw [a3, b3]; cases zS b <;> simp [FP.Core.signed] <;> omega) h
  obtain ⟨g1, g2, g3⟩ := z_put h2
  have e : FP.dsub a b = UInt64.ofNat (FP.Core.encode FP.Core.b64 (.fin (if zV a - zV b = 0 then zS a && !zS b else decide (zV a - zV b < 0)) c' q')) := by
    show UInt64.ofNat (FP.Core.encode FP.Core.b64 (FP.Core.round FP.Core.b64 (FP.Core.exactSum (FP.Core.decode FP.Core.b64 a.toNat) (FP.Core.negate (FP.Core.decode FP.Core.b64 b.toNat))))) = _
    rw [a1, b1]
    show UInt64.ofNat (FP.Core.encode FP.Core.b64 (FP.Core.round FP.Core.b64 (FP.Core.exactSum (.fin (zS a) c q) (.fin (!zS b) d r)))) = _
    rw [h1]
  rw [e]
  exact ⟨g1, g3.trans (by rw [h3, z_m64]; rfl), g2⟩
theorem f_fadd {a b : UInt32} (ha : ff a) (hb : ff b) (h : (fV a + fV b).natAbs ≤ 2 ^ 1201) : ff (FP.fadd a b) ∧ fV (FP.fadd a b) = z_rs 24 925 (fV a + fV b) ∧ fS (FP.fadd a b) = z_ss (fS a) (fS b) (fV a + fV b) := by
  obtain ⟨c, q, a1, a2, a3, a4, -⟩ := f_get ha
  obtain ⟨d, r, b1, b2, b3, b4, -⟩ := f_get hb
  rw [← z_bd32] at h
  obtain ⟨c', q', h1, h2, h3⟩ := z_sum (Or.inl rfl) (s := fS a) (t := fS b) (c := c) (d := d) (q := q) (r := r) (by omega) (by omega) (V := fV a + fV b) (by rw [a3, b3]) h
  obtain ⟨g1, g2, g3⟩ := f_put h2
  have e : FP.fadd a b = UInt32.ofNat (FP.Core.encode FP.Core.b32 (.fin (if fV a + fV b = 0 then fS a && fS b else decide (fV a + fV b < 0)) c' q')) := by
    show UInt32.ofNat (FP.Core.encode FP.Core.b32 (FP.Core.round FP.Core.b32 (FP.Core.exactSum (FP.Core.decode FP.Core.b32 a.toNat) (FP.Core.decode FP.Core.b32 b.toNat)))) = _
    rw [a1, b1, h1]
  rw [e]
  exact ⟨g1, g3.trans (by rw [h3, z_m32]; rfl), g2⟩
theorem f_fsub {a b : UInt32} (ha : ff a) (hb : ff b) (h : (fV a - fV b).natAbs ≤ 2 ^ 1201) : ff (FP.fsub a b) ∧ fV (FP.fsub a b) = z_rs 24 925 (fV a - fV b) ∧ fS (FP.fsub a b) = z_ss (fS a) (!fS b) (fV a - fV b) := by
  obtain ⟨c, q, a1, a2, a3, a4, -⟩ := f_get ha
  obtain ⟨d, r, b1, b2, b3, b4, -⟩ := f_get hb
  rw [← z_bd32] at h
  obtain ⟨c', q', h1, h2, h3⟩ := z_sum (Or.inl rfl) (s := fS a) (t := !fS b) (c := c) (d := d) (q := q) (r := r) (by omega) (by omega) (V := fV a - fV b) (by rw [a3, b3]; cases fS b <;> simp [FP.Core.signed] <;> omega) h
  obtain ⟨g1, g2, g3⟩ := f_put h2
  have e : FP.fsub a b = UInt32.ofNat (FP.Core.encode FP.Core.b32 (.fin (if fV a - fV b = 0 then fS a && !fS b else decide (fV a - fV b < 0)) c' q')) := by
    show UInt32.ofNat (FP.Core.encode FP.Core.b32 (FP.Core.round FP.Core.b32 (FP.Core.exactSum (FP.Core.decode FP.Core.b32 a.toNat) (FP.Core.negate (FP.Core.decode FP.Core.b32 b.toNat))))) = _
    rw [a1, b1]
    show UInt32.ofNat (FP.Core.encode FP.Core.b32 (FP.Core.round FP.Core.b32 (FP.Core.exactSum (.fin (fS a) c q) (.fin (!fS b) d r)))) = _
    rw [h1]
  rw [e]
  exact ⟨g1, g3.trans (by rw [h3, z_m32]; rfl), g2⟩
/-- a double of a float: the same number -/
theorem z_notnan {f : FP.Core.Fmt} {n : Nat} {s : Bool} {c : Nat} {q : Int} (h : FP.Core.decode f n = .fin s c q) : FP.Core.isNaN f n = false := by
  unfold FP.Core.isNaN
  rw [h]
  exact decide_eq_false (fun h => by cases h)
theorem z_f2d {a : UInt32} (ha : ff a) : zf (FP.f2d a) ∧ zV (FP.f2d a) = fV a ∧ zS (FP.f2d a) = fS a := by
  obtain ⟨c, q, a1, a2, a3, a4, a5, a6⟩ := f_get ha
  have hb : c * 2 ^ (q + 1074).toNat ≤ 2 ^ (FP.Core.b64.p - 1) * 2 ^ (FP.Core.b64.qmax + 1074).toNat := by
    refine Nat.mul_le_mul ?_ (Nat.pow_le_pow_right (by decide) ?_)
    · rw [z_k64.2.2.1]
      exact Nat.le_trans (Nat.le_of_lt a6) (by decide)
    · rw [z_k64.2.2.2.2]
      omega
  obtain ⟨c', q', h1, h2, h3⟩ := z_round (s := fS a) (E := 1074) (Or.inr rfl) (by omega) (show -1074 ≤ q by omega) hb
  obtain ⟨g1, g2, g3⟩ := z_put h2
  have e : FP.f2d a = UInt64.ofNat (FP.Core.encode FP.Core.b64 (.fin (fS a) c' q')) := by
    unfold FP.f2d
    rw [show FP.Core.fIsNaN a = false from z_notnan a1]
    show UInt64.ofNat (FP.Core.encode FP.Core.b64 (FP.Core.round FP.Core.b64 (FP.Core.decode FP.Core.b32 a.toNat))) = _
    rw [a1, h1]
  rw [e]
  refine ⟨g1, ?_, g2⟩
  rw [g3, h3, a3, z_k64.2.2.1, z_m64, z_rn_id (by decide) (Nat.le_trans (Nat.le_of_lt a6) (by decide)) (by omega)]
theorem f_d2f {a : UInt64} (ha : zf a) (h : (zV a).natAbs ≤ 2 ^ 1201) : ff (FP.d2f a) ∧ fV (FP.d2f a) = z_rs 24 925 (zV a) ∧ fS (FP.d2f a) = zS a := by
  obtain ⟨c, q, a1, a2, a3, a4, a5, a6⟩ := z_get ha
  have hb : c * 2 ^ (q + 1074).toNat ≤ 2 ^ (FP.Core.b32.p - 1) * 2 ^ (FP.Core.b32.qmax + 1074).toNat := by
    rw [z_bd32]
    rw [a3, z_sg_nat] at h
    exact h
  obtain ⟨c', q', h1, h2, h3⟩ := z_round (s := zS a) (E := 1074) (Or.inl rfl) (by omega) a4 hb
  obtain ⟨g1, g2, g3⟩ := f_put h2
  have e : FP.d2f a = UInt32.ofNat (FP.Core.encode FP.Core.b32 (.fin (zS a) c' q')) := by
    unfold FP.d2f
    rw [show FP.Core.dIsNaN a = false from z_notnan a1]
    show UInt32.ofNat (FP.Core.encode FP.Core.b32 (FP.Core.round FP.Core.b32 (FP.Core.decode FP.Core.b64 a.toNat))) = _
    rw [a1, h1]
  rw [e]
  refine ⟨g1, ?_, g2⟩
  rw [g3, h3, a3, z_rs_sg, z_k32.2.2.1, z_m32]
/-- a float's value stays when it's rounded -/
theorem f_rs {a : UInt32} (ha : ff a) : z_rs 24 925 (fV a) = fV a ∧ (fV a).natAbs ≤ 2 ^ 1202 := by
  obtain ⟨c, q, a1, a2, a3, a4, a5, a6⟩ := f_get ha
  rw [a3, z_rs_sg, z_rn_id (by decide) (Nat.le_of_lt a6) (by omega), z_sg_nat]
  refine ⟨rfl, ?_⟩
  refine Nat.le_trans (Nat.mul_le_mul (Nat.le_of_lt a6) (Nat.pow_le_pow_right (by decide) (show (q + 1074).toNat ≤ 1178 by omega))) ?_
  rw [show 16777216 = 2 ^ 24 from rfl, ← Nat.pow_add]
  exact Nat.le_refl _
theorem z_rs_id {a : UInt64} (ha : zf a) : z_rs 53 0 (zV a) = zV a := by
  obtain ⟨c, q, a1, a2, a3, a4, a5, a6⟩ := z_get ha
  rw [a3, z_rs_sg, z_rn_id (by decide) (Nat.le_of_lt a6) (by omega)]
theorem f_round {a : UInt32} (ha : ff a) (h : (fV a).natAbs ≤ 2 ^ 1201) : FP.d2f (FP.f2d a) = a := by
  obtain ⟨a1, a2, a3⟩ := z_f2d ha
  obtain ⟨b1, b2, b3⟩ := f_d2f a1 (by rw [a2]; exact h)
  refine f_ext b1 ha (b3.trans a3) ?_
  rw [b2, a2, (f_rs ha).1]
/-! comparison -/
theorem z_cmp_scale {x y k : Int} (hk : 0 < k) : compare (x * k) (y * k) = compare x y := by
  have h1 : x * k < y * k ↔ x < y := Int.mul_lt_mul_right hk
  have h2 : x * k = y * k ↔ x = y := Int.mul_eq_mul_right_iff (by omega)
  show compareOfLessAndEq (x * k) (y * k) = compareOfLessAndEq x y
  unfold compareOfLessAndEq
  simp only [h1, h2]
theorem z_order {s t : Bool} {c d : Nat} {q r : Int} (hq : -1074 ≤ q) (hr : -1074 ≤ r) : FP.Core.order (.fin s c q) (.fin t d r) = some (compare (FP.Core.signed s (c * 2 ^ (q + 1074).toNat)) (FP.Core.signed t (d * 2 ^ (r + 1074).toNat))) := by
  have hp : (0 : Int) < ((2 ^ (min q r + 1074).toNat : Nat) : Int) := by
    have := Nat.two_pow_pos (min q r + 1074).toNat
    omega
  show some (compare (FP.Core.signed s (FP.Core.inUnits c q (min q r))) (FP.Core.signed t (FP.Core.inUnits d r (min q r)))) = _
  rw [← z_cmp_scale hp, ← z_sg_mul, ← z_sg_mul, z_units (by omega) (by omega), z_units (by omega) (by omega)]
theorem z_dcmp {a b : UInt64} (ha : zf a) (hb : zf b) : FP.dcmp a b = some (compare (zV a) (zV b)) := by
  obtain ⟨c, q, a1, a2, a3, a4, -⟩ := z_get ha
  obtain ⟨d, r, b1, b2, b3, b4, -⟩ := z_get hb
  show FP.Core.order (FP.Core.decode FP.Core.b64 a.toNat) (FP.Core.decode FP.Core.b64 b.toNat) = _
  rw [a1, b1, z_order a4 b4, a3, b3]
theorem f_fcmp {a b : UInt32} (ha : ff a) (hb : ff b) : FP.fcmp a b = some (compare (fV a) (fV b)) := by
  obtain ⟨c, q, a1, a2, a3, a4, -⟩ := f_get ha
  obtain ⟨d, r, b1, b2, b3, b4, -⟩ := f_get hb
  show FP.Core.order (FP.Core.decode FP.Core.b32 a.toNat) (FP.Core.decode FP.Core.b32 b.toNat) = _
  rw [a1, b1, z_order (by omega) (by omega), a3, b3]
theorem z_cmp_lt {x y : Int} : some (compare x y) = some Ordering.lt ↔ x < y := by
  show some (compareOfLessAndEq x y) = _ ↔ _
  unfold compareOfLessAndEq
  split
  · simp [*]
  · split <;> simp [*]
theorem z_cmp_eq {x y : Int} : some (compare x y) = some Ordering.eq ↔ x = y := by
  show some (compareOfLessAndEq x y) = _ ↔ _
  unfold compareOfLessAndEq
  split
  · simp only [Option.some.injEq, reduceCtorEq, false_iff]; omega
  · split <;> simp [*]
theorem z_dlt {a b : UInt64} (ha : zf a) (hb : zf b) : dlt a b ↔ zV a < zV b := by
  unfold dlt
  rw [z_dcmp ha hb]
  exact z_cmp_lt
theorem z_deq {a b : UInt64} (ha : zf a) (hb : zf b) : deq a b ↔ zV a = zV b := by
  unfold deq
  rw [z_dcmp ha hb]
  exact z_cmp_eq
theorem z_dle {a b : UInt64} (ha : zf a) (hb : zf b) : dle a b ↔ zV a ≤ zV b := by
  unfold dle
  rw [z_dcmp ha hb, z_cmp_lt, z_cmp_eq]
  omega
theorem z_feq {a b : UInt32} (ha : ff a) (hb : ff b) : feq a b ↔ fV a = fV b := by
  unfold feq
  rw [f_fcmp ha hb]
  exact z_cmp_eq
