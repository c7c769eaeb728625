/-! Numbers of a kind (a ledger's): sums, signs, bits; both sides. By hand -/
def zk (k : Bool) (v : UInt64) : Prop := match k with | true => zf v | false => ∃ u, ff u ∧ v = FP.f2d u
theorem zk_f {k : Bool} {v : UInt64} (h : zk k v) : zf v := by
  cases k
  · obtain ⟨u, h1, h2⟩ := h
    rw [h2]
    exact (z_f2d h1).1
  · exact h
def z_kr (k : Bool) (z : Int) : Int := match k with | true => z_rs 53 0 z | false => z_rs 24 925 z
theorem zk_id {k : Bool} {v : UInt64} (h : zk k v) : z_kr k (zV v) = zV v := by
  cases k
  · obtain ⟨u, h1, h2⟩ := h
    rw [h2, (z_f2d h1).2.1]
    exact (f_rs h1).1
  · exact z_rs_id h
theorem zk_n {v : UInt64} (h : zk false v) (hb : (zV v).natAbs ≤ 2 ^ 1201) : FP.f2d (FP.d2f v) = v ∧ ff (FP.d2f v) ∧ fV (FP.d2f v) = zV v ∧ fS (FP.d2f v) = zS v := by
  obtain ⟨u, h1, h2⟩ := h
  obtain ⟨a1, a2, a3⟩ := z_f2d h1
  rw [h2, a2] at hb
  have hr := f_round h1 hb
  rw [h2, hr]
  exact ⟨rfl, h1, a2.symm, a3.symm⟩
theorem zk_32 {v : UInt64} (h : zf v) (hb : (zV v).natAbs ≤ 2 ^ 1201) : ff (FP.d2f v) ∧ vf_n32 (FP.d2f v) := ⟨(f_d2f h hb).1, f_n32 (f_d2f h hb).1⟩
theorem z_p1201 : (2 : Nat) ^ 1200 + 2 ^ 1200 = 2 ^ 1201 := by
  have : (2 : Nat) ^ 1201 = 2 ^ 1200 * 2 := Nat.pow_succ 2 1200
  omega
theorem z_p1200 : (2 : Nat) ^ 1200 ≤ 2 ^ 1201 := Nat.pow_le_pow_right (by decide) (by decide)
theorem z_p2097 : (2 : Nat) ^ 1201 ≤ 2 ^ 2097 := Nat.pow_le_pow_right (by decide) (by decide)
/-- a sum in a kind -/
def z_ad (k : Bool) (a b : UInt64) : UInt64 := match k with | true => FP.dadd a b | false => FP.f2d (FP.fadd (FP.d2f a) (FP.d2f b))
theorem z_ad_sp {k : Bool} {a b : UInt64} (ha : zk k a) (hb : zk k b) (h1 : (zV a).natAbs ≤ 2 ^ 1200) (h2 : (zV b).natAbs ≤ 2 ^ 1200) : zk k (z_ad k a b) ∧ zV (z_ad k a b) = z_kr k (zV a + zV b) ∧ zS (z_ad k a b) = z_ss (zS a) (zS b) (zV a + zV b) := by
  have p1 := z_p1201
  have p2 := z_p1200
  have p3 := z_p2097
  cases k
  · obtain ⟨a1, a2, a3, a4⟩ := zk_n ha (by omega)
    obtain ⟨b1, b2, b3, b4⟩ := zk_n hb (by omega)
    obtain ⟨s1, s2, s3⟩ := f_fadd a2 b2 (by rw [a3, b3]; omega)
    obtain ⟨d1, d2, d3⟩ := z_f2d s1
    refine ⟨⟨_, s1, rfl⟩, ?_, ?_⟩
    · show zV (FP.f2d _) = _
      rw [d2, s2, a3, b3]
      rfl
    · show zS (FP.f2d _) = _
      rw [d3, s3, a3, b3, a4, b4]
  · obtain ⟨s1, s2, s3⟩ := z_dadd ha hb (by omega)
    exact ⟨s1, s2, s3⟩
theorem q_add {k : Bool} {a b : UInt64} {K : UInt64 → Prop} (ha : zk k a) (hb : zk k b) (h1 : (zV a).natAbs ≤ 2 ^ 1200) (h2 : (zV b).natAbs ≤ 2 ^ 1200) (hK : K (z_ad k a b)) : wL_add k a b K := by
  have p1 := z_p1201
  have p2 := z_p1200
  have hs := z_ad_sp ha hb h1 h2
  cases k
  · obtain ⟨a1, a2, a3, a4⟩ := zk_n ha (by omega)
    obtain ⟨b1, b2, b3, b4⟩ := zk_n hb (by omega)
    obtain ⟨s1, s2, s3⟩ := f_fadd a2 b2 (by rw [a3, b3]; omega)
    exact ⟨f_n32 a2, f_n32 b2, f_n32 s1, z_n64 (zk_f hs.1), hK⟩
  · exact ⟨z_n64 hs.1, hK⟩
theorem q3_sum {k : Bool} {w : Int32} {a b : UInt64} {K : UInt64 → Prop} (hw : w = 0 ↔ k = false) (ha : zk k a) (hb : zk k b) (h1 : (zV a).natAbs ≤ 2 ^ 1200) (h2 : (zV b).natAbs ≤ 2 ^ 1200) (hK : K (z_ad k a b)) : wX3_sum a b w K := by
  have p1 := z_p1201
  have p2 := z_p1200
  have hs := z_ad_sp ha hb h1 h2
  cases k
  · obtain ⟨a1, a2, a3, a4⟩ := zk_n ha (by omega)
    obtain ⟨b1, b2, b3, b4⟩ := zk_n hb (by omega)
    obtain ⟨s1, s2, s3⟩ := f_fadd a2 b2 (by rw [a3, b3]; omega)
    exact ⟨fun _ => ⟨f_n32 a2, f_n32 b2, f_n32 s1, z_n64 (zk_f hs.1), hK⟩, fun c => absurd (hw.mpr rfl) c⟩
  · exact ⟨fun c => absurd (hw.mp c) (by decide), fun _ => ⟨z_n64 hs.1, hK⟩⟩
theorem zk_neg {k : Bool} {b : UInt64} (hb : zk k b) : zk k (FP.dneg b) := by
  cases k
  · obtain ⟨u, h1, h2⟩ := hb
    refine ⟨FP.fneg u, (f_fneg h1).1, ?_⟩
    obtain ⟨a1, a2, a3⟩ := z_f2d h1
    obtain ⟨n1, n2, n3⟩ := z_dneg a1
    obtain ⟨m1, m2, m3⟩ := f_fneg h1
    obtain ⟨c1, c2, c3⟩ := z_f2d m1
    rw [h2]
    refine z_ext n1 c1 ?_ ?_
    · rw [n3, a3, c3, m3]
    · rw [n2, a2, c2, m2]
  · exact (z_dneg hb).1
theorem q3_less {k : Bool} {w : Int32} {a b : UInt64} {K : UInt64 → Prop} (hw : w = 0 ↔ k = false) (ha : zk k a) (hb : zk k b) (h1 : (zV a).natAbs ≤ 2 ^ 1200) (h2 : (zV b).natAbs ≤ 2 ^ 1200) (hK : K (z_ad k a (FP.dneg b))) : wX3_less a b w K := by
  have p1 := z_p1201
  have p2 := z_p1200
  have p3 := z_p2097
  have hn := z_dneg (zk_f hb)
  have hs := z_ad_sp ha (zk_neg hb) h1 (by rw [hn.2.1]; omega)
  cases k
  · obtain ⟨a1, a2, a3, a4⟩ := zk_n ha (by omega)
    obtain ⟨b1, b2, b3, b4⟩ := zk_n hb (by omega)
    have e : FP.fsub (FP.d2f a) (FP.d2f b) = FP.fadd (FP.d2f a) (FP.d2f (FP.dneg b)) := by
      rw [f_d2f_neg (zk_f hb) (by omega)]
      exact f_sub_neg a2 b2 (by rw [a3, b3]; omega)
    refine ⟨fun _ => ⟨f_n32 a2, f_n32 b2, ?_, ?_, ?_⟩, fun c => absurd (hw.mpr rfl) c⟩
    · exact f_n32 (f_fsub a2 b2 (by rw [a3, b3]; omega)).1
    · rw [e]; exact z_n64 (zk_f hs.1)
    · rw [e]; exact hK
  · have e : FP.dsub a b = FP.dadd a (FP.dneg b) := z_sub_neg ha hb (by omega)
    refine ⟨fun c => absurd (hw.mp c) (by decide), fun _ => ?_⟩
    rw [e]
    exact ⟨z_n64 hs.1, hK⟩
theorem q_less {k : Bool} {a b : UInt64} {K : UInt64 → Prop} (ha : zk k a) (hb : zk k b) (h1 : (zV a).natAbs ≤ 2 ^ 1200) (h2 : (zV b).natAbs ≤ 2 ^ 1200) (hK : K (z_ad k a (FP.dneg b))) : wX26_less a b k K := q_add ha (zk_neg hb) h1 (by rw [(z_dneg (zk_f hb)).2.1]; omega) hK
/-! bounds -/
theorem z_kr_le {k : Bool} {b j : Nat} {z : Int} (hb : b ≤ 16777216) (hj : 925 ≤ j) (h : z.natAbs ≤ b * 2 ^ j) : (z_kr k z).natAbs ≤ b * 2 ^ j := by
  cases k
  · exact z_rs_le (by decide) hb hj h
  · exact z_rs_le (by decide) (Nat.le_trans hb (by decide)) (by omega) h
theorem z_kr_err {k : Bool} {j : Nat} {z : Int} (hj : 925 ≤ j) (h : z.natAbs < 2 ^ (j + 24)) : 2 * (z_kr k z - z).natAbs ≤ 2 ^ j := by
  cases k
  · exact z_rs_err (by decide) hj h
  · refine z_rs_err (p := 53) (by decide) (by omega) (Nat.lt_of_lt_of_le h (Nat.pow_le_pow_right (by decide) (by omega)))
/-! size, sign -/
theorem z_szk {v : UInt64} (h : zf v) : (dlt v FP.dconst0 ↔ zV v < 0) ∧ (deq v FP.dconst0 ↔ zV v = 0) := by
  obtain ⟨c1, c2, c3⟩ := z_0
  rw [z_dlt h c1, z_deq h c1, c2]
  exact ⟨Iff.rfl, Iff.rfl⟩
theorem q3_sizeOf {v : UInt64} {K : UInt64 → Prop} (h : zf v) (hK : K (mAbs v)) : wX3_sizeOf v K := by
  obtain ⟨s1, s2⟩ := z_szk h
  obtain ⟨m1, m2, m3⟩ := z_mAbs h
  obtain ⟨c1, c2, c3⟩ := z_0
  refine ⟨fun a => ⟨fun b => ?_, fun b => ?_⟩, fun a => ?_⟩
  · rw [s1] at a
    rw [s2] at b
    have : v = mAbs v := by
      refine z_ext h m1 ?_ (by rw [m2]; omega)
      rw [m3, z_sgn h b]
      exact decide_eq_false a
    rw [this]
    exact hK
  · rw [s2] at b
    have : FP.dconst0 = mAbs v := z_ext c1 m1 (by rw [c3, m3]) (by rw [c2, m2, b]; rfl)
    rw [this]
    exact hK
  · rw [s1] at a
    obtain ⟨n1, n2, n3⟩ := z_dneg h
    have : FP.dneg v = mAbs v := by
      refine z_ext n1 m1 ?_ (by rw [n2, m2]; omega)
      rw [m3, n3, z_sgn h (by omega), decide_eq_true a]
      rfl
    rw [this]
    exact hK
theorem z_neg64 {v : UInt64} (h : zf v) : (0 : Int64) ≤ v.toInt64 ↔ zS v = false := by
  obtain ⟨E, T, hE, hT, b1, b2, b3, b4, -⟩ := z_bitsL h
  rw [Int64.le_iff_toInt_le, Int64.toInt_zero]
  cases hs : zS v
  · rw [hs] at b3
    refine ⟨fun _ => rfl, fun _ => ?_⟩
    have : ¬ v.toInt64.toInt < 0 := fun q => by have := b3.mp q; cases this
    omega
  · rw [hs] at b3
    have := b3.mpr rfl
    exact ⟨fun q => by omega, fun q => by cases q⟩
theorem q3_isMinus {v : UInt64} {K : Int32 → Prop} (h : zf v) (h0 : zS v = false → K 0) (h1 : zS v = true → K 1) : wX3_isMinus v K := by
  refine q12_bits h ⟨fun c => h0 ((z_neg64 h).mp c), fun c => h1 ?_⟩
  cases hs : zS v
  · exact absurd ((z_neg64 h).mpr hs) c
  · rfl
/-! a number's bits in the kind -/
def z_bt (k : Bool) (v : UInt64) : Int64 := match k with | true => v.toInt64 | false => (FP.d2f v).toInt32.toInt64
theorem q_bits {k : Bool} {v : UInt64} {K : Int64 → Prop} (h : zf v) (hb : (zV v).natAbs ≤ 2 ^ 1201) (hK : K (z_bt k v)) : wL_bits k v K := by
  cases k
  · obtain ⟨a1, a2⟩ := zk_32 h hb
    exact ⟨a2, q11_bits a1 hK⟩
  · exact q12_bits h hK
theorem q3_bitsOf {k : Bool} {w : Int32} {v : UInt64} {K : Int64 → Prop} (hw : w = 0 ↔ k = false) (h : zf v) (hb : (zV v).natAbs ≤ 2 ^ 1201) (hK : K (z_bt k v)) : wX3_bitsOf w v K := by
  cases k
  · obtain ⟨a1, a2⟩ := zk_32 h hb
    exact ⟨fun _ => ⟨a2, q11_bits a1 hK⟩, fun c => absurd (hw.mpr rfl) c⟩
  · exact ⟨fun c => absurd (hw.mp c) (by decide), fun _ => q12_bits h hK⟩
theorem q8_bits {k : Bool} {w : Int32} {v : UInt64} {K : Int64 → Prop} (hw : w = 0 ↔ k = false) (h : zf v) (hb : (zV v).natAbs ≤ 2 ^ 1201) (hK : K (z_bt k v)) : wX8_bits v w K := by
  cases k
  · obtain ⟨a1, a2⟩ := zk_32 h hb
    exact ⟨fun _ => ⟨a2, q11_bits a1 hK⟩, fun c => absurd (hw.mpr rfl) c⟩
  · exact ⟨fun c => absurd (hw.mp c) (by decide), fun _ => q12_bits h hK⟩
theorem z_cnd (k : Bool) : (cond k (1 : Int32) 0 = 0 ↔ k = false) := by cases k <;> decide
theorem z_bt_inj {k : Bool} {a b : UInt64} (ha : zk k a) (hb : zk k b) (h1 : (zV a).natAbs ≤ 2 ^ 1201) (h2 : (zV b).natAbs ≤ 2 ^ 1201) : z_bt k a = z_bt k b ↔ a = b := by
  refine ⟨fun h => ?_, fun h => by rw [h]⟩
  cases k
  · obtain ⟨a1, -⟩ := zk_n ha h1
    obtain ⟨b1, -⟩ := zk_n hb h2
    have h : (FP.d2f a).toInt32.toInt64 = (FP.d2f b).toInt32.toInt64 := h
    have e : (FP.d2f a).toInt32 = (FP.d2f b).toInt32 := by
      have := congrArg Int64.toInt h
      rw [Int32.toInt_toInt64, Int32.toInt_toInt64] at this
      exact Int32.toInt_inj.mp this
    have e2 : FP.d2f a = FP.d2f b := by
      have := congrArg Int32.toUInt32 e
      exact this
    rw [← a1, ← b1, e2]
  · have h : a.toInt64 = b.toInt64 := h
    have := congrArg Int64.toUInt64 h
    exact this
/-! tens -/
theorem q3_tens_L {p : Nat} (hp : p ≤ 6) {X : Int64 → Int32 → Prop} (hX : ∀ (v : Int64) i, v.toInt = (10 : Int) ^ p → X v i) : ∀ (m k : Nat), k + m = p → ∀ v : Int64, v.toInt = (10 : Int) ^ k → wX3_tens_L4 (Int32.ofNat p) X (m + 1) v (Int32.ofNat k) := by
  intro m
  induction m with
  | zero =>
    intro k hk v hv
    have e : k = p := by omega
    subst e
    exact ⟨fun _ => hX v _ hv, fun c => absurd (Int32.le_refl _) c⟩
  | succ m ih =>
    intro k hk v hv
    have hb : ∀ j : Nat, j ≤ 6 → 0 ≤ (10 : Int) ^ j ∧ (10 : Int) ^ j ≤ 1000000 := by decide
    have := hb k (by omega)
    refine ⟨fun c => absurd ((w_leI (by omega) (by omega)).mp c) (by omega), fun _ y hy x hx => ?_⟩
    rw [hx, w_suc]
    refine ih (k + 1) (by omega) y ?_
    rw [hy, w_mul64 (by rw [hv]; show _ ≤ _ * (10 : Int); omega) (by rw [hv]; show _ * (10 : Int) < _; omega), hv, Int.pow_succ]
    rfl
theorem q3_tens {p : Nat} (hp : p ≤ 6) {K : Int64 → Prop} (hK : ∀ v : Int64, v.toInt = (10 : Int) ^ p → K v) : wX3_tens (Int32.ofNat p) K := ⟨p + 1, q3_tens_L hp (fun v _ => hK v) p 0 (by omega) 1 rfl⟩
/-! the nearest number of a kind -/
theorem q_nearest {k : Bool} {w : Nat → Int32} {z : Int} {K : UInt64 → (Nat → Int32) → Prop} (h : EX 40 0 w z) (hz : z.natAbs < 2 ^ 1200) (hK : ∀ d w', zk k d → zS d = decide (z < 0) → zV d = z_kr k z → EX 40 0 w' z → K d w') : wL_nearest k w K := by
  cases k
  · refine q2_toFloat h hz (fun d w' d1 d2 d3 d4 => ?_)
    obtain ⟨a1, a2, a3⟩ := z_f2d d1
    exact ⟨z_n64 a1, hK _ _ ⟨d, d1, rfl⟩ (by rw [a3, d2]) (by rw [a2, d3]; rfl) d4⟩
  · exact q2_toDouble h (Nat.lt_of_lt_of_le hz (Nat.pow_le_pow_right (by decide) (by decide))) (fun d w' d1 d2 d3 d4 => hK d w' d1 d2 d3 d4)
theorem z_kd_kr {k : Bool} {w : Int32} (hw : w = 0 ↔ k = false) (z : Int) : z_kd w z = z_kr k z := by
  unfold z_kd
  cases k
  · rw [if_pos (hw.mpr rfl)]; rfl
  · rw [if_neg (fun c => by have := hw.mp c; cases this)]; rfl
