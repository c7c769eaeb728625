/-! the plain law: units; both sides. By hand (gen/238.plains.src.txt) -/
/-- units of a size, so many places: whether they're far; the number -/
def p_un (v : UInt64) (p : Nat) : Nat := FP.Core.nearest ((zV v).natAbs * 10 ^ p) (2 ^ 1074)
def p_uv (v : UInt64) (p : Nat) : Int := if zV v < 0 then -(p_un v p : Int) else (p_un v p : Int)
theorem p_10 {p : Nat} (h : p ≤ 6) : 1 ≤ 10 ^ p ∧ 10 ^ p ≤ 1000000 := by
  have : ∀ q : Fin 7, 1 ≤ 10 ^ q.val ∧ 10 ^ q.val ≤ 1000000 := by decide
  exact this ⟨p, by omega⟩
theorem p_10i (p : Nat) : ((10 ^ p : Nat) : Int) = (10 : Int) ^ p := by
  rw [Int.natCast_pow]
  rfl
theorem w_litL (n : Nat) (h : n < 2000000000000000000) : (Int64.ofNat n).toInt = (n : Int) := Int64.toInt_ofNat_of_lt (by omega)
theorem q_units {v : UInt64} {p : Nat} (hp : p ≤ 6) (hv : zf v) (hb : (zV v).natAbs ≤ 2 ^ 1192) {w : Nat → Int32} {F : Int32 → (Nat → Int32) → Prop} {X : Int64 → (Nat → Int32) → Prop} (h : ∀ (r : Int64) (w4 : Nat → Int32) , EX 40 0 w4 (((zV v).natAbs * 10 ^ p : Nat) : Int) → (∀ n : Nat, n ≤ 1280 → (zV v).natAbs * 10 ^ p < 2 ^ n → (n = 0 ∨ 2 ^ (n - 1) ≤ (zV v).natAbs * 10 ^ p) → r.toInt = (n : Int) → F (Int32.ofNat n) w4)) : wX2_clear w (fun w_1 => (vf_n64 v ∧ (wX2_add (mAbs v) (0 : Int32) w_1 (fun w_2 => (vp_in (Int32.ofNat p) 7 ∧ (wX2_times (xTens (Int32.ofNat p).toNatClampNeg) w_2 (fun w_4 => (wX2_length w_4 (fun r_5 => F r_5 w_4))))))))) := by
  obtain ⟨m1, m2, m3⟩ := z_mAbs hv
  obtain ⟨t1, t2⟩ := p_tb hp
  have pm := z_pM
  have hxt := p_xt hp
  have h10 := p_10 hp
  have hP : (zV v).natAbs * 10 ^ p < 2 ^ 1280 := by
    refine Nat.lt_of_le_of_lt (Nat.mul_le_mul hb h10.2) ?_
    have : (2 : Nat) ^ 1192 * 1000000 ≤ 2 ^ 1192 * 2 ^ 20 := Nat.mul_le_mul_left _ (by decide)
    rw [← Nat.pow_add] at this
    exact Nat.lt_of_le_of_lt this (Nat.pow_lt_pow_right (by decide) (by decide))
  refine q2_clear (fun w1 g1 => ⟨z_n64 hv, q2_add g1 m1 (by rw [m2]; omega) (Or.inl rfl) (fun w2 g2 => ⟨w_in (by omega) (by omega), ?_⟩)⟩)
  rw [w_cl (by omega)]
  refine q2_times g2 (by rw [hxt]; omega) (fun w4 g4 => ?_)
  have g4 : EX 40 0 w4 (((zV v).natAbs * 10 ^ p : Nat) : Int) := by
    have g4 : EX 40 0 w4 ((0 + zV (mAbs v)) * (xTens p).toInt) := g4
    rw [m2, Int.zero_add, hxt, ← p_10i, ← Int.natCast_mul] at g4
    exact g4
  refine q2_length g4 hP (fun n hn h1 h2 => h (Int64.ofNat n) w4 g4 n hn h1 h2 (w_litL n (by omega)))
theorem p_un_lt {v : UInt64} {p : Nat} (h : p_un v p ≤ 1000000000000000) : (zV v).natAbs * 10 ^ p < 2 ^ 1134 := by
  refine Nat.lt_of_not_le fun c => ?_
  have h2 : 2 ^ 60 ≤ p_un v p := by
    refine z_near_ge (Nat.two_pow_pos _) ?_
    rw [← Nat.pow_add]
    exact c
  have : (2 : Nat) ^ 60 = 1152921504606846976 := by decide
  omega
theorem p_len {P n k : Nat} (h1 : P < 2 ^ n) (h2 : n = 0 ∨ 2 ^ (n - 1) ≤ P) : n ≤ k ↔ P < 2 ^ k := by
  refine ⟨fun h => Nat.lt_of_lt_of_le h1 (Nat.pow_le_pow_right (by decide) h), fun h => Nat.le_of_not_lt fun c => ?_⟩
  rcases h2 with q | q
  · omega
  · have : 2 ^ k ≤ 2 ^ (n - 1) := Nat.pow_le_pow_right (by decide) (by omega)
    omega
theorem q_unitsN {v : UInt64} {p : Nat} (hp : p ≤ 6) (hv : zf v) (hb : (zV v).natAbs ≤ 2 ^ 1192) (hn : p_un v p ≤ 1000000000000000) {w : Nat → Int32} {K : Int64 → (Nat → Int32) → Prop} (hK : ∀ (r : Int64) w', r.toInt = p_uv v p → K r w') : wX1_unitsOf_N v (Int32.ofNat p) w K := by
  have hlt := p_un_lt hn
  refine q_units hp hv hb (X := K) (F := fun r_5 w_4 => (r_5 ≤ (1134 : Int32) → (wX2_rounded (1074 : Int32) w_4 (fun (r_6 : Int64) => ((r_6 ≤ (1000000000000000 : Int64) → ((¬ dlt v FP.dconst0 → K r_6 w_4) ∧ (dlt v FP.dconst0 → K (-r_6) w_4))) ∧ (¬ r_6 ≤ (1000000000000000 : Int64) → False))))) ∧ (¬ r_5 ≤ (1134 : Int32) → False)) (fun _ w4 g4 n hn1 h1 h2 _ => ?_)
  have hle := (p_len (k := 1134) h1 h2).mpr hlt
  refine ⟨fun _ => ?_, fun c => absurd (w_leO (b := 1134) (by omega) (by omega) hle) c⟩
  refine q2_rounded (s := 1074) g4 (Nat.lt_trans hlt (Nat.pow_lt_pow_right (by decide) (by decide))) (Nat.lt_trans hlt (Nat.pow_lt_pow_right (by decide) (by decide))) (by decide) (fun q hq => ?_)
  have hq : q.toInt = (p_un v p : Int) := hq
  have le : q ≤ (1000000000000000 : Int64) := by
    rw [Int64.le_iff_toInt_le, hq, show (1000000000000000 : Int64).toInt = 1000000000000000 from rfl]
    omega
  refine ⟨fun _ => ?_, fun c => absurd le c⟩
  rw [(z_szk hv).1]
  refine ⟨fun c => hK _ _ ?_, fun c => hK _ _ ?_⟩
  · unfold p_uv
    rw [if_neg c, hq]
  · unfold p_uv
    rw [if_pos c, w_neg64 (by omega), hq]
theorem q_unitsX {v : UInt64} {p : Nat} (hp : p ≤ 6) (hv : zf v) (hb : (zV v).natAbs ≤ 2 ^ 1192) (hn : 1000000000000000 < p_un v p) {w : Nat → Int32} {E : String → (Nat → Int32) → Prop} (hE : ∀ w', E "RoundingAuditor$Far" w') : wX1_unitsOf_X v (Int32.ofNat p) w (fun _ _ => False) E := by
  refine q_units hp hv hb (X := fun _ _ => False) (F := fun r_5 w_4 => (r_5 ≤ (1134 : Int32) → (wX2_rounded (1074 : Int32) w_4 (fun (r_6 : Int64) => ((r_6 ≤ (1000000000000000 : Int64) → False) ∧ (¬ r_6 ≤ (1000000000000000 : Int64) → (∀ a_7 : Nat, (wX7_init (E "RoundingAuditor$Far" w_4)))))))) ∧ (¬ r_5 ≤ (1134 : Int32) → (∀ a_8 : Nat, (wX7_init (E "RoundingAuditor$Far" w_4))))) (fun _ w4 g4 n hn1 h1 h2 _ => ?_)
  refine ⟨fun c => ?_, fun _ _ => hE w4⟩
  have hle := (w_leI (b := 1134) (by omega) (by omega)).mp c
  have hlt := (p_len (k := 1134) h1 h2).mp hle
  refine q2_rounded (s := 1074) g4 (Nat.lt_trans hlt (Nat.pow_lt_pow_right (by decide) (by decide))) (Nat.lt_trans hlt (Nat.pow_lt_pow_right (by decide) (by decide))) (by decide) (fun q hq => ?_)
  have hq : q.toInt = (p_un v p : Int) := hq
  have le : ¬ q ≤ (1000000000000000 : Int64) := by
    rw [Int64.le_iff_toInt_le, hq, show (1000000000000000 : Int64).toInt = 1000000000000000 from rfl]
    omega
  exact ⟨fun c => absurd c le, fun _ _ => hE w4⟩
/-! the model's -/
theorem z_ten {p : Nat} (h : p ≤ 6) {r : Int64} (hr : r.toInt = (10 : Int) ^ p) : zf (FP.l2d r) ∧ zV (FP.l2d r) = ((10 ^ p * 2 ^ 1074 : Nat) : Int) := by
  have key : ∀ q : Fin 7, FP.Core.fieldE FP.Core.b64 (FP.l2d (Int64.ofNat (10 ^ q.val))).toNat ≠ 2047 ∧ zV (FP.l2d (Int64.ofNat (10 ^ q.val))) = ((10 ^ q.val * 2 ^ 1074 : Nat) : Int) := by decide +kernel
  have e : r = Int64.ofNat (10 ^ p) := by
    rw [← Int64.toInt_inj, hr, w_litL _ (by have := p_10 h; omega), p_10i]
  rw [e]
  exact key ⟨p, by omega⟩
theorem z_c15 : zf 4831355200913801224 ∧ zV 4831355200913801224 = ((1000000000000001 * 2 ^ 1074 : Nat) : Int) := by
  refine ⟨by unfold zf; decide +kernel, by decide +kernel⟩
theorem z_c215 : zf 4835858800541171712 ∧ zV 4835858800541171712 = ((2000000000000000 * 2 ^ 1074 : Nat) : Int) := by
  refine ⟨by unfold zf; decide +kernel, by decide +kernel⟩
/-- what's half or above: a whole number with its rest -/
theorem p_near {Q R D : Nat} (hR : R < D) : FP.Core.nearest (Q * D + R) D = Q + (if D < 2 * R ∨ (D = 2 * R ∧ Q % 2 = 1) then 1 else 0) := by
  have hD : 0 < D := by omega
  have e1 : (Q * D + R) % D = R := by rw [Nat.mul_comm, Nat.mul_add_mod, Nat.mod_eq_of_lt hR]
  have e2 : (Q * D + R) / D = Q := by rw [Nat.mul_comm, Nat.mul_add_div hD, Nat.div_eq_of_lt hR, Nat.add_zero]
  unfold FP.Core.nearest
  rw [e1, e2]
  by_cases c : 2 * R < D
  · rw [if_pos c, if_neg (by omega)]; rfl
  · rw [if_neg c]
    by_cases d : D < 2 * R
    · rw [if_pos d, if_pos (Or.inl d)]
    · rw [if_neg d]
      by_cases e : Q % 2 = 1
      · rw [if_pos (Or.inr ⟨by omega, e⟩), e]
      · rw [if_neg (by omega)]; omega
theorem q3_un_J352 {v : UInt64} (hv : zf v) {q x : Int64} {u : Int64} {K : Int32 → Int64 → Prop} {p : Nat} (hq : q.toInt + x.toInt = (p_un v p : Int)) (hq0 : 0 ≤ q.toInt ∧ q.toInt ≤ 4000000000000000) (hx : 0 ≤ x.toInt ∧ x.toInt ≤ 1) (k1 : p_un v p ≤ 1000000000000000 → ∀ r : Int64, r.toInt = p_uv v p → K 1 r) (k0 : 1000000000000000 < p_un v p → K 0 u) : wX3_hasUnits_J352 v u K q x := by
  intro y hy
  have ey : y.toInt = (p_un v p : Int) := by rw [hy, w_add64 (by omega) (by omega), hq]
  rw [Int64.le_iff_toInt_le, ey, show (1000000000000000 : Int64).toInt = 1000000000000000 from rfl, (z_szk hv).1]
  refine ⟨fun c => ⟨fun d => k1 (by omega) y ?_, fun d y2 hy2 => k1 (by omega) y2 ?_⟩, fun c => k0 (by omega)⟩
  · unfold p_uv
    rw [if_neg d, ey]
  · unfold p_uv
    rw [if_pos d, hy2, w_neg64 (by omega), ey]
theorem q3_un_J324 {v : UInt64} (hv : zf v) {q : Int64} {Q : Nat} {ab ha : Int32} {u : Int64} {K : Int32 → Int64 → Prop} {p : Nat} {A H : Prop} (hA : ¬ ab = 0 ↔ A) (hH : ¬ ha = 0 ↔ H) (hq : q.toInt = (Q : Int)) (hQ : Q ≤ 4000000000000000) (hpos : A ∨ (H ∧ Q % 2 = 1) → p_un v p = Q + 1) (hneg : ¬ (A ∨ (H ∧ Q % 2 = 1)) → p_un v p = Q) (k1 : p_un v p ≤ 1000000000000000 → ∀ r : Int64, r.toInt = p_uv v p → K 1 r) (k0 : 1000000000000000 < p_un v p → K 0 u) : wX3_hasUnits_J324 v u K q ab ha := by
  have one : (A ∨ (H ∧ Q % 2 = 1)) → wX3_hasUnits_J352 v u K q 1 := fun h => q3_un_J352 hv (by rw [hq, hpos h]; rfl) (by omega) ⟨by decide, by decide⟩ k1 k0
  have zero : ¬ (A ∨ (H ∧ Q % 2 = 1)) → wX3_hasUnits_J352 v u K q 0 := fun h => q3_un_J352 hv (by rw [hq, hneg h]; exact Int.add_zero _) (by omega) ⟨by decide, by decide⟩ k1 k0
  have hodd := w_rem2 hq
  refine ⟨fun c => one (Or.inl (hA.mp c)), fun c => ⟨fun d => zero ?_, fun d => ⟨fun e => zero ?_, fun e => one (Or.inr ⟨hH.mp d, hodd.mp e⟩)⟩⟩⟩
  · rintro (h | ⟨h, _⟩)
    · exact hA.mpr h c
    · exact hH.mpr h d
  · rintro (h | ⟨_, h⟩)
    · exact hA.mpr h c
    · exact e (hodd.mpr h)
theorem w_maskj {y : Int64} {j : Nat} (hj : j < 62) : (y &&& (jlshl 1 (Int32.ofNat j) - 1)).toInt = y.toInt % (2 : Int) ^ j := by
  have hp : (2 : Int) ^ j ≤ (2 : Int) ^ 61 := by
    rw [← w_p2, ← w_p2]
    have : 2 ^ j ≤ 2 ^ 61 := Nat.pow_le_pow_right (by decide) (by omega)
    omega
  have hp1 := w_p2pos j
  have h61 : (2 : Int) ^ 61 = 2305843009213693952 := rfl
  have e1 : (jlshl 1 (Int32.ofNat j)).toInt = (2 : Int) ^ j := by
    have := w_lshl (y := 1) (k := j) (by omega) (by show _ ≤ (1 : Int) * _; omega) (by show (1 : Int) * _ < _; omega)
    rw [this]
    show (1 : Int) * _ = _
    omega
  have e2 : (jlshl 1 (Int32.ofNat j) - 1).toInt = (2 : Int) ^ j - 1 := by
    rw [w_sub64 (by rw [e1]; show _ ≤ _ - (1 : Int); omega) (by rw [e1]; show _ - (1 : Int) < _; omega), e1]
    rfl
  have e3 := w_nn64 (y := jlshl 1 (Int32.ofNat j) - 1) (by omega)
  refine w_and64 (by omega) ?_
  have e4 := w_p2 j
  have := Nat.two_pow_pos j
  omega
theorem w_halfj {j : Nat} (hj : j < 62) : (jlshl 1 (Int32.ofNat j)).toInt = ((2 ^ j : Nat) : Int) := by
  have hp : (2 : Int) ^ j ≤ (2 : Int) ^ 61 := by
    rw [← w_p2, ← w_p2]
    have : 2 ^ j ≤ 2 ^ 61 := Nat.pow_le_pow_right (by decide) (by omega)
    omega
  have hp1 := w_p2pos j
  have h61 : (2 : Int) ^ 61 = 2305843009213693952 := rfl
  have := w_lshl (y := 1) (k := j) (by omega) (by show _ ≤ (1 : Int) * _; omega) (by show (1 : Int) * _ < _; omega)
  rw [this, w_p2]
  show (1 : Int) * _ = _
  omega
theorem p_split1 {W D : Nat} : W = W / 1073741824 / D * (D * 1073741824) + (W / 1073741824 % D * 1073741824 + W % 1073741824) := by
  have a := Nat.div_add_mod (W / 1073741824) D
  have b := Nat.div_add_mod W 1073741824
  rw [show W / 1073741824 / D * (D * 1073741824) = D * (W / 1073741824 / D) * 1073741824 by rw [← Nat.mul_assoc, Nat.mul_comm (W / 1073741824 / D) D]]
  generalize D * (W / 1073741824 / D) = x at *
  generalize W / 1073741824 % D = y at *
  omega
theorem p_split2 {W P Q : Nat} (h : P * Q = 1073741824) : W = (W / 1073741824 * P + W % 1073741824 / Q) * Q + W % 1073741824 % Q := by
  have a := Nat.div_add_mod (W % 1073741824) Q
  rw [Nat.add_mul, Nat.mul_assoc, h, Nat.mul_comm (W % 1073741824 / Q)]
  generalize Q * (W % 1073741824 / Q) = x at *
  generalize W % 1073741824 % Q = y at *
  omega
theorem w_ndiv {x : Int} {n k : Nat} (h : x = (n : Int)) : x / (2 : Int) ^ k = ((n / 2 ^ k : Nat) : Int) := by rw [h, ← w_p2, ← Int.natCast_ediv]
theorem w_nmod {x : Int} {n k : Nat} (h : x = (n : Int)) : x % (2 : Int) ^ k = ((n % 2 ^ k : Nat) : Int) := by rw [h, ← w_p2, ← Int.natCast_emod]
theorem q3_un_J96 {v : UInt64} (hv : zf v) {p : Nat} (hp : p ≤ 6) {ten m : Int64} {mm e : Nat} (ht : ten.toInt = (10 : Int) ^ p) (hm : m.toInt = (mm : Int)) (hmm : mm < 9007199254740992) (he : 1 ≤ e ∧ e ≤ 1072) (hM : (zV v).natAbs = mm * 2 ^ (e - 1)) (hb : (zV v).natAbs * 10 ^ p < 2000000000000001 * 2 ^ 1074) {u : Int64} {K : Int32 → Int64 → Prop} (k1 : p_un v p ≤ 1000000000000000 → ∀ r : Int64, r.toInt = p_uv v p → K 1 r) (k0 : 1000000000000000 < p_un v p → K 0 u) : wX3_hasUnits_J96 v K ten m 1075 (Int32.ofNat e) u := by
  have h10 := p_10 hp
  have ht2 : ten.toInt = ((10 ^ p : Nat) : Int) := by rw [ht, p_10i]
  generalize hT : 10 ^ p = T at h10 ht2 hb
  have hW0 : mm * T ≤ 9007199254740991 * 1000000 := Nat.mul_le_mul (by omega) h10.2
  have hk1 : 2 ^ (1075 - e) * 2 ^ (e - 1) = 2 ^ 1074 := by
    rw [← Nat.pow_add, show 1075 - e + (e - 1) = 1074 by omega]
  have hun : p_un v p = FP.Core.nearest (mm * T) (2 ^ (1075 - e)) := by
    unfold p_un
    rw [hT, hM, ← hk1, show mm * 2 ^ (e - 1) * T = mm * T * 2 ^ (e - 1) by rw [Nat.mul_assoc, Nat.mul_comm (2 ^ (e - 1)) T, ← Nat.mul_assoc], z_near_scale (Nat.two_pow_pos _)]
  have hWk : mm * T < 2000000000000001 * 2 ^ (1075 - e) := by
    refine Nat.lt_of_mul_lt_mul_right (a := 2 ^ (e - 1)) ?_
    rw [Nat.mul_assoc 2000000000000001, hk1, Nat.mul_assoc mm, Nat.mul_comm T, ← Nat.mul_assoc, ← hM]
    exact hb
  obtain ⟨k, hk⟩ : ∃ k, k = 1075 - e := ⟨_, rfl⟩
  rw [← hk] at hun hWk
  have hk3 : 3 ≤ k ∧ k ≤ 1074 := by omega
  intro x11 h11 y12 h12 y13 h13 y14 h14 y15 h15
  have e11 : x11 = Int32.ofNat k := by
    rw [h11, hk, show (1075 : Int32) = Int32.ofNat 1075 from rfl, ← Int32.ofNat_sub _ _ (by omega)]
  subst e11
  have em30 : (jlshr m 30).toInt = ((mm / 1073741824 : Nat) : Int) := by
    have := w_lshr (y := m) (k := 30) (by decide)
    refine (show (jlshr m 30).toInt = _ from this).trans ?_
    rw [hm]
    show (mm : Int) / 1073741824 = _
    omega
  have ema : (m &&& 1073741823).toInt = ((mm % 1073741824 : Nat) : Int) := by
    rw [w_and64 (k := 30) (by decide) rfl, hm]
    show (mm : Int) % 1073741824 = _
    omega
  have ba : mm / 1073741824 * T ≤ 8388608 * 1000000 := Nat.mul_le_mul (by omega) h10.2
  have bb : mm % 1073741824 * T ≤ 1073741824 * 1000000 := Nat.mul_le_mul (by omega) h10.2
  have e12 : y12.toInt = ((mm / 1073741824 * T : Nat) : Int) := by
    have : (jlshr m 30).toInt * ten.toInt = ((mm / 1073741824 * T : Nat) : Int) := by rw [em30, ht2, Int.natCast_mul]
    rw [h12, w_mul64 (by omega) (by omega), this]
  have e13 : y13.toInt = ((mm % 1073741824 * T : Nat) : Int) := by
    have : (m &&& 1073741823).toInt * ten.toInt = ((mm % 1073741824 * T : Nat) : Int) := by rw [ema, ht2, Int.natCast_mul]
    rw [h13, w_mul64 (by omega) (by omega), this]
  have hWs : mm * T = mm / 1073741824 * T * 1073741824 + mm % 1073741824 * T := by
    rw [Nat.mul_assoc (mm / 1073741824), Nat.mul_comm T 1073741824, ← Nat.mul_assoc, ← Nat.add_mul, Nat.div_add_mod']
  have e13s : (jlshr y13 30).toInt = ((mm % 1073741824 * T / 1073741824 : Nat) : Int) := by
    have := w_lshr (y := y13) (k := 30) (by decide)
    refine (show (jlshr y13 30).toInt = _ from this).trans ?_
    rw [e13]
    generalize mm % 1073741824 * T = B
    show (B : Int) / 1073741824 = _
    omega
  generalize mm / 1073741824 * T = Aa at *
  generalize mm % 1073741824 * T = B at *
  generalize mm * T = W at *
  have e14 : y14.toInt = ((W / 1073741824 : Nat) : Int) := by
    rw [h14, w_add64 (by rw [e12, e13s]; omega) (by rw [e12, e13s]; omega), e12, e13s]
    omega
  have e15 : y15.toInt = ((W % 1073741824 : Nat) : Int) := by
    rw [h15, w_and64 (k := 30) (by decide) rfl, e13]
    show (B : Int) % 1073741824 = _
    omega
  have hlt : ∀ a : Nat, a < 2000000 → ((30 : Int32) < Int32.ofNat a ↔ 30 < a) := fun a ha => w_ltI (a := 30) (by omega) ha
  refine ⟨fun c => ⟨fun d x16 h16 y17 h17 y18 h18 => ?_, fun d => ?_⟩, fun c y31 h31 y32 h32 => ?_⟩
  · have c := (hlt k (by omega)).mp c
    have e30 : Int32.ofNat k - 30 = Int32.ofNat (k - 30) := by
      rw [show (30 : Int32) = Int32.ofNat 30 from rfl, ← Int32.ofNat_sub _ _ (by omega)]
    rw [e30] at d h16
    have d := (w_leI (b := 45) (by omega) (by omega)).mp d
    obtain ⟨j, hj⟩ : ∃ j, k - 30 = j + 1 := ⟨k - 31, by omega⟩
    rw [hj] at d h16
    subst h16
    have e17 : y17.toInt = ((W / 1073741824 / 2 ^ (j + 1) : Nat) : Int) := by
      rw [h17, w_lshr (by omega)]
      exact w_ndiv e14
    have e18 : y18.toInt = ((W / 1073741824 % 2 ^ (j + 1) : Nat) : Int) := by
      rw [h18, w_maskj (by omega)]
      exact w_nmod e14
    have eh : (jlshl 1 (Int32.ofNat (j + 1) - 1)).toInt = ((2 ^ j : Nat) : Int) := by rw [w_prd']; exact w_halfj (by omega)
    have hD : 2 ^ k = 2 * 2 ^ j * 1073741824 := by
      rw [show k = (j + 1) + 30 by omega, Nat.pow_add, Nat.pow_succ, Nat.mul_comm (2 ^ j) 2]
    have hD1 : 2 ^ (j + 1) = 2 * 2 ^ j := by rw [Nat.pow_succ, Nat.mul_comm]
    have hdm := Nat.div_add_mod (W / 1073741824) (2 ^ (j + 1))
    have hml := Nat.mod_lt (W / 1073741824) (Nat.two_pow_pos (j + 1))
    have hQb : W / 1073741824 / 2 ^ (j + 1) ≤ W / 1073741824 := Nat.div_le_self _ _
    have hWQ : W = W / 1073741824 / 2 ^ (j + 1) * 2 ^ k + (W / 1073741824 % 2 ^ (j + 1) * 1073741824 + W % 1073741824) := by
      rw [show 2 ^ k = 2 ^ (j + 1) * 1073741824 by rw [hD, hD1]]
      exact p_split1
    generalize hQ : W / 1073741824 / 2 ^ (j + 1) = Q at *
    generalize hr : W / 1073741824 % 2 ^ (j + 1) = r at *
    have hb' : W % 1073741824 < 1073741824 := Nat.mod_lt _ (by decide)
    generalize hbb : W % 1073741824 = bb' at *
    generalize 2 ^ j = h at *
    have hnear : p_un v p = Q + (if 2 ^ k < 2 * (r * 1073741824 + bb') ∨ (2 ^ k = 2 * (r * 1073741824 + bb') ∧ Q % 2 = 1) then 1 else 0) := by
      rw [hun, hWQ]
      exact p_near (by rw [hD]; omega)
    rw [hD] at hnear
    have leaf : ∀ ab ha : Int32, (¬ ab = 0 ↔ (h < r ∨ (r = h ∧ 0 < bb'))) → (¬ ha = 0 ↔ (r = h ∧ bb' = 0)) → wX3_hasUnits_J324 v u K y17 ab ha := by
      intro ab ha hA hH
      refine q3_un_J324 hv hA hH e17 (by omega) (fun q => ?_) (fun q => ?_) k1 k0
      · rw [hnear, if_pos (by omega)]
      · rw [hnear, if_neg (by omega), Nat.add_zero]
    have J284 : ∀ ha : Int32, (¬ ha = 0 ↔ (r = h ∧ bb' = 0)) → wX3_hasUnits_J284 v u K y15 y17 (Int32.ofNat (j + 1)) y18 ha := by
      intro ha hH
      unfold wX3_hasUnits_J284
      rw [Int64.lt_iff_toInt_lt, Int64.le_iff_toInt_le, ← Int64.toInt_inj, eh, e18, e15, Int64.toInt_zero]
      exact ⟨fun c => leaf 1 ha ⟨fun _ => Or.inl (by omega), fun _ => by decide⟩ hH, fun c => ⟨fun d => leaf 0 ha ⟨fun q => absurd rfl q, fun q => by omega⟩ hH, fun d => ⟨fun e => leaf 0 ha ⟨fun q => absurd rfl q, fun q => by omega⟩ hH, fun e => leaf 1 ha ⟨fun _ => Or.inr (by omega), fun _ => by decide⟩ hH⟩⟩⟩
    rw [← Int64.toInt_inj, ← Int64.toInt_inj, eh, e18, e15, Int64.toInt_zero]
    exact ⟨fun c => J284 0 ⟨fun q => absurd rfl q, fun q => by omega⟩, fun c => ⟨fun d => J284 0 ⟨fun q => absurd rfl q, fun q => by omega⟩, fun d => J284 1 ⟨fun _ => by omega, fun _ => by decide⟩⟩⟩
  · have c := (hlt k (by omega)).mp c
    have e30 : Int32.ofNat k - 30 = Int32.ofNat (k - 30) := by
      rw [show (30 : Int32) = Int32.ofNat 30 from rfl, ← Int32.ofNat_sub _ _ (by omega)]
    rw [e30] at d
    have d2 : ¬ k - 30 ≤ 45 := fun q => d (w_leO (b := 45) (by omega) (by omega) q)
    have hk76 : 2 ^ 76 ≤ 2 ^ k := Nat.pow_le_pow_right (by decide) (by omega)
    have h76 : (2 : Nat) ^ 76 = 75557863725914323419136 := by decide
    have hz : p_un v p = 0 := by
      have := p_near (Q := 0) (R := W) (D := 2 ^ k) (by omega)
      rw [hun, show W = 0 * 2 ^ k + W by omega, this, if_neg (by omega)]
    exact q3_un_J324 hv (A := False) (H := False) ⟨fun q => absurd rfl q, fun q => q.elim⟩ ⟨fun q => absurd rfl q, fun q => q.elim⟩ (Q := 0) rfl (by omega) (fun q => by rcases q with q | q; exact q.elim; exact q.1.elim) (fun _ => hz) k1 k0
  · have c : ¬ 30 < k := fun q => c ((hlt k (by omega)).mpr q)
    obtain ⟨j, hj⟩ : ∃ j, k = j + 1 := ⟨k - 1, by omega⟩
    have e30 : (30 : Int32) - Int32.ofNat k = Int32.ofNat (30 - k) := by
      rw [show (30 : Int32) = Int32.ofNat 30 from rfl, ← Int32.ofNat_sub _ _ (by omega)]
    have hD1 : 2 ^ k = 2 * 2 ^ j := by rw [hj, Nat.pow_succ, Nat.mul_comm]
    have h30 : 2 ^ (30 - k) * 2 ^ k = 1073741824 := by
      rw [← Nat.pow_add, show 30 - k + k = 30 by omega]
    have hdm := Nat.div_add_mod (W % 1073741824) (2 ^ k)
    have hml := Nat.mod_lt (W % 1073741824) (Nat.two_pow_pos k)
    have hWQ : W = (W / 1073741824 * 2 ^ (30 - k) + W % 1073741824 / 2 ^ k) * 2 ^ k + W % 1073741824 % 2 ^ k := by
      exact p_split2 h30
    have hQb : W / 1073741824 * 2 ^ (30 - k) + W % 1073741824 / 2 ^ k < 2000000000000001 := by
      refine Nat.lt_of_mul_lt_mul_right (a := 2 ^ k) ?_
      omega
    have esh : (jlshl y14 (30 - Int32.ofNat k)).toInt = ((W / 1073741824 * 2 ^ (30 - k) : Nat) : Int) := by
      have e : y14.toInt * (2 : Int) ^ (30 - k) = ((W / 1073741824 * 2 ^ (30 - k) : Nat) : Int) := by rw [e14, ← w_p2, Int.natCast_mul]
      rw [e30, w_lshl (by omega) (by rw [e]; generalize W / 1073741824 * 2 ^ (30 - k) = z at hQb; generalize W % 1073741824 / 2 ^ k = z2 at hQb; omega) (by rw [e]; generalize W / 1073741824 * 2 ^ (30 - k) = z at hQb; generalize W % 1073741824 / 2 ^ k = z2 at hQb; omega), e]
    have esr : (jlshr y15 (Int32.ofNat k)).toInt = ((W % 1073741824 / 2 ^ k : Nat) : Int) := by
      rw [w_lshr (by omega)]
      exact w_ndiv e15
    have e32 : y32.toInt = ((W % 1073741824 % 2 ^ k : Nat) : Int) := by
      rw [h32, w_maskj (by omega)]
      exact w_nmod e15
    have eh : (jlshl 1 (Int32.ofNat k - 1)).toInt = ((2 ^ j : Nat) : Int) := by rw [hj, w_prd']; exact w_halfj (by omega)
    generalize W / 1073741824 * 2 ^ (30 - k) = z1 at *
    generalize W % 1073741824 / 2 ^ k = z2 at *
    generalize W % 1073741824 % 2 ^ k = r at *
    have e31 : y31.toInt = ((z1 + z2 : Nat) : Int) := by
      rw [h31, w_add64 (by rw [esh, esr]; omega) (by rw [esh, esr]; omega), esh, esr]
      rfl
    have hnear : p_un v p = (z1 + z2) + (if 2 ^ k < 2 * r ∨ (2 ^ k = 2 * r ∧ (z1 + z2) % 2 = 1) then 1 else 0) := by
      rw [hun, hWQ]
      exact p_near hml
    rw [hD1] at hnear
    generalize 2 ^ j = h at *
    have leaf : ∀ ab ha : Int32, (¬ ab = 0 ↔ h < r) → (¬ ha = 0 ↔ r = h) → wX3_hasUnits_J324 v u K y31 ab ha := by
      intro ab ha hA hH
      refine q3_un_J324 hv hA hH e31 (by omega) (fun q => ?_) (fun q => ?_) k1 k0
      · rw [hnear, if_pos (by omega)]
      · rw [hnear, if_neg (by omega), Nat.add_zero]
    have J189 : ∀ ha : Int32, (¬ ha = 0 ↔ r = h) → wX3_hasUnits_J189 v u K (Int32.ofNat k) y31 y32 ha := by
      intro ha hH
      unfold wX3_hasUnits_J189
      rw [Int64.le_iff_toInt_le, eh, e32]
      exact ⟨fun c => leaf 0 ha ⟨fun q => absurd rfl q, fun q => by omega⟩ hH, fun c => leaf 1 ha ⟨fun _ => by omega, fun _ => by decide⟩ hH⟩
    rw [← Int64.toInt_inj, eh, e32]
    exact ⟨fun c => J189 0 ⟨fun q => absurd rfl q, fun q => by omega⟩, fun c => J189 1 ⟨fun _ => by omega, fun _ => by decide⟩⟩
theorem q3_units {v : UInt64} {p : Nat} (hp : p ≤ 6) (hv : zf v) (hb : (zV v).natAbs ≤ 2 ^ 1192) {u : Int64} {K : Int32 → Int64 → Prop} (k1 : p_un v p ≤ 1000000000000000 → ∀ r : Int64, r.toInt = p_uv v p → K 1 r) (k0 : 1000000000000000 < p_un v p → K 0 0) : wX3_hasUnits v (Int32.ofNat p) u K := by
  obtain ⟨m1, m2, m3⟩ := z_mAbs hv
  have h10 := p_10 hp
  refine q3_sizeOf hv (q3_tens hp (fun r hr => ?_))
  obtain ⟨t1, t2⟩ := z_ten hp hr
  have hMP : (zV v).natAbs ≤ (zV v).natAbs * 10 ^ p := Nat.le_mul_of_pos_right _ (by omega)
  rw [z_dlt m1 z_c15.1, m2, z_c15.2]
  refine ⟨fun c => k0 ?_, fun c => ?_⟩
  · have : 1000000000000001 ≤ p_un v p := z_near_ge (Nat.two_pow_pos _) (by omega)
    omega
  · have hMb : (zV v).natAbs < 1000000000000001 * 2 ^ 1074 := by omega
    have e1 : (zV (mAbs v)).natAbs = (zV v).natAbs := by rw [m2]; rfl
    have e2 : (zV (FP.l2d r)).natAbs = 10 ^ p * 2 ^ 1074 := by rw [t2]; rfl
    have e3 : (zV v).natAbs * (10 ^ p * 2 ^ 1074) = (zV v).natAbs * 10 ^ p * 2 ^ 1074 := by rw [Nat.mul_assoc]
    have hmb : (zV (mAbs v)).natAbs * (zV (FP.l2d r)).natAbs ≤ 2 ^ 3171 := by
      rw [e1, e2]
      refine Nat.le_trans (Nat.mul_le_mul hb (Nat.mul_le_mul_right _ (show 10 ^ p ≤ 2 ^ 20 by have : (2 : Nat) ^ 20 = 1048576 := rfl; omega))) ?_
      rw [← Nat.pow_add, ← Nat.pow_add]
      exact Nat.pow_le_pow_right (by decide) (by decide)
    obtain ⟨d1, d2, d3⟩ := z_dmul m1 t1 hmb
    have dpos : 0 ≤ zV (FP.dmul (mAbs v) (FP.l2d r)) := by
      refine z_pos d1 ?_
      rw [d3, m3]
      cases hs : zS (FP.l2d r)
      · rfl
      · have := z_neg t1 hs
        rw [t2] at this
        have h3 : 0 < 10 ^ p * 2 ^ 1074 := Nat.mul_pos (by omega) (Nat.two_pow_pos _)
        omega
    rw [e1, e2, e3] at d2
    refine ⟨z_n64 d1, ?_⟩
    rw [z_dgt d1 z_c215.1, z_c215.2]
    have p2148 : (2 : Nat) ^ 1074 * 2 ^ 1074 = 2 ^ 2148 := by rw [← Nat.pow_add]
    refine ⟨fun c2 => ?_, fun c2 => k0 ?_⟩
    · have hPb : (zV v).natAbs * 10 ^ p < 2000000000000001 * 2 ^ 1074 := by
        refine Nat.lt_of_not_le fun q => ?_
        have h1 : 2000000000000001 * 2 ^ 2148 ≤ (zV v).natAbs * 10 ^ p * 2 ^ 1074 := by
          rw [← p2148, ← Nat.mul_assoc]
          exact Nat.mul_le_mul_right _ q
        have h2 := z_le_rn (p := 53) (m := 1074) (b := 2000000000000001) (j := 2148) (by decide) (by decide) (by decide) h1
        rw [← d2, ← p2148, ← Nat.mul_assoc] at h2
        have h3 := Nat.le_of_mul_le_mul_right h2 (Nat.two_pow_pos 1074)
        have h4 := Nat.two_pow_pos 1074
        omega
      obtain ⟨E, T, hE, hT, b1, b2, b3, b4, b5⟩ := z_bitsL m1
      have hMg : (zV v).natAbs = (if E = 0 then T else 4503599627370496 + T) * 2 ^ (E - 1) := by rw [← e1, z_vabs m1, b4]
      have hEb : E ≤ 1072 := by
        refine Nat.le_of_not_lt fun q => ?_
        rw [if_neg (by omega)] at hMg
        have h1 : 2 ^ 52 * 2 ^ 1072 ≤ (4503599627370496 + T) * 2 ^ (E - 1) := Nat.mul_le_mul (by have : (2 : Nat) ^ 52 = 4503599627370496 := rfl; omega) (Nat.pow_le_pow_right (by decide) (by omega))
        rw [← Nat.pow_add] at h1
        have h2 : 1000000000000001 * 2 ^ 1074 ≤ 2 ^ 50 * 2 ^ 1074 := Nat.mul_le_mul_right _ (by decide)
        rw [← Nat.pow_add] at h2
        have h3 : (2 : Nat) ^ (50 + 1074) = 2 ^ (52 + 1072) := rfl
        omega
      refine q12_bits m1 (fun x4 h4 y5 h5 => ?_)
      have ex4 : x4 = Int32.ofNat E := by
        have hpos : 0 ≤ (mAbs v).toInt64.toInt := by
          refine Int.not_lt.mp fun q => ?_
          have := b3.mp q
          rw [m3] at this
          cases this
        have hlt := (mAbs v).toInt64.toInt_lt
        have e : (jlshr (mAbs v).toInt64 52).toInt = (E : Int) := by
          rw [show (52 : Int32) = Int32.ofNat 52 from rfl, w_lshr (by decide)]
          show (mAbs v).toInt64.toInt / 4503599627370496 = _
          omega
        rw [← Int32.toInt_inj, h4, Int64.toInt_toInt32, e, nI_int (by omega)]
        exact Int.bmod_eq_of_le (by omega) (by omega)
      subst ex4
      have eT : y5.toInt = (T : Int) := by
        rw [h5, w_and64 (k := 52) (by decide) rfl]
        exact b2
      refine ⟨fun q => ?_, fun q y37 h37 => ?_⟩
      · have cE : E = 0 := by
          have := (w_leI (b := 0) (by omega) (by omega)).mp q
          omega
        refine ⟨fun _ => ?_, fun q2 => absurd q q2⟩
        rw [if_pos cE, cE] at hMg
        exact q3_un_J96 (e := 1) hv hp hr eT (by omega) ⟨by decide, by decide⟩ hMg hPb k1 k0
      · have cE : ¬ E = 0 := fun h => q (by rw [h]; exact Int32.le_refl _)
        refine ⟨fun q2 => absurd q2 q, fun _ => ?_⟩
        rw [if_neg cE] at hMg
        refine q3_un_J96 (mm := 4503599627370496 + T) (e := E) hv hp hr ?_ (by omega) ⟨by omega, hEb⟩ hMg hPb k1 k0
        rw [h37, w_add64 (by rw [eT]; show _ ≤ _ + (4503599627370496 : Int); omega) (by rw [eT]; show _ + (4503599627370496 : Int) < _; omega), eT]
        show (T : Int) + 4503599627370496 = _
        omega
    · have hPb : 2000000000000000 * 2 ^ 1074 < (zV v).natAbs * 10 ^ p := by
        refine Nat.lt_of_not_le fun q => ?_
        have h1 : (zV v).natAbs * 10 ^ p * 2 ^ 1074 ≤ 2000000000000000 * 2 ^ 2148 := by
          rw [← p2148, ← Nat.mul_assoc]
          exact Nat.mul_le_mul_right _ q
        have h2 := z_rn_le (p := 53) (m := 1074) (b := 2000000000000000) (j := 2148) (by decide) (by decide) (by decide) h1
        rw [← d2, ← p2148, ← Nat.mul_assoc] at h2
        have h3 := Nat.le_of_mul_le_mul_right h2 (Nat.two_pow_pos 1074)
        omega
      have : 2000000000000000 ≤ p_un v p := z_near_ge (Nat.two_pow_pos _) (by omega)
      omega
