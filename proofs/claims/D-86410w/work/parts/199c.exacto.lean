/-! Exact numbers: the nearest number of a kind; the model's. By hand -/
theorem z_P44 : z_P 44 = ((2 ^ 1408 : Nat) : Int) := rfl
theorem z_P43 : z_P 43 * 2147483648 = ((2 ^ 1407 : Nat) : Int) := by
  have e : z_P 43 = ((2 ^ 1376 : Nat) : Int) := rfl
  rw [e, show (2147483648 : Int) = ((2 ^ 31 : Nat) : Int) from rfl, ← Int.natCast_mul]
  exact congrArg (fun n : Nat => (n : Int)) (Nat.pow_add 2 1376 31).symm
theorem q3_top_L {big : Nat → Int32} {N : Nat} (h : EX 44 1012 big N) (hN0 : 0 < N) (hN : N < 2 ^ 1408) {X : Int32 → Prop} (hX : X (Int32.ofNat N.log2)) : ∀ k, k < 1408 → N < 2 ^ (k + 1) → wX3_nearest_L34 big X (k + 1) (Int32.ofNat k) := by
  have hNz : (N : Int) < z_P 44 := by rw [z_P44]; omega
  intro k
  induction k with
  | zero =>
    intro _ hk
    have e : N = 1 := by
      have : (2 : Nat) ^ (0 + 1) = 2 := rfl
      omega
    have hl : N.log2 = 0 := by rw [e]; decide
    rw [hl] at hX
    refine q3_hasBit h hNz (by omega) (fun _ => ⟨fun _ => hX, fun d => absurd d (by decide)⟩) (fun d => ?_)
    rw [e] at d
    exact absurd d (by decide)
  | succ k ih =>
    intro hk hlt
    refine q3_hasBit h hNz (by omega) (fun b1 => ⟨fun _ => ?_, fun d => absurd d (by decide)⟩) (fun b0 => ⟨fun d => absurd rfl d, fun _ x hx => ?_⟩)
    · have : N.log2 = k + 1 := by
        rw [Nat.log2_eq_iff (by omega)]
        exact ⟨z_bit1 b1, hlt⟩
      rw [this] at hX
      exact hX
    · rw [hx, w_prd]
      exact ih (by omega) (z_bit0 hlt b0)
theorem w_twice {q : Int64} (h0 : 0 ≤ q.toInt) (h1 : q.toInt < 4611686018427387904) : (2 * q).toInt = 2 * q.toInt := by
  rw [w_mul64 (by show _ ≤ (2 : Int) * _; omega) (by show (2 : Int) * _ < _; omega)]
  rfl
theorem q3_m_L {big : Nat → Int32} {N s : Nat} (h : EX 44 1012 big N) (hN : N < 2 ^ 1408) (hs : N < 2 ^ (s + 62)) (hs2 : s < 1408) {X : Int64 → Int32 → Prop} (hX : ∀ (q : Int64) i, q.toInt = ((N / 2 ^ s : Nat) : Int) → X q i) : ∀ m, s + m ≤ 1408 → ∀ q : Int64, q.toInt = ((N / 2 ^ (s + m) : Nat) : Int) → wX3_nearest_L107 big (Int32.ofNat s) X (m + 1) q (Int32.ofNat (s + m) - 1) := by
  have hNz : (N : Int) < z_P 44 := by rw [z_P44]; omega
  intro m
  induction m with
  | zero =>
    intro _ q hq
    have e : (Int32.ofNat (s + 0) - 1).toInt = (s : Int) - 1 := by
      rw [w_sub32 (by rw [nI_int (by omega)]; show _ ≤ _ - (1 : Int); omega) (by rw [nI_int (by omega)]; show _ - (1 : Int) < _; omega), nI_int (by omega)]
      rfl
    have lt : (Int32.ofNat (s + 0) - 1) < Int32.ofNat s := by
      rw [Int32.lt_iff_toInt_lt, e, nI_int (by omega)]
      omega
    exact ⟨fun _ => hX q _ hq, fun c => absurd lt c⟩
  | succ m ih =>
    intro hm q hq
    rw [show s + (m + 1) = (s + m) + 1 from rfl, w_prd']
    have hd := z_div_bd hs (show s ≤ s + (m + 1) by omega)
    have hz := z_shr (N := N) (k := s + m)
    have hz : N / 2 ^ (s + m) = 2 * (N / 2 ^ (s + (m + 1))) + N / 2 ^ (s + m) % 2 := hz
    generalize N / 2 ^ (s + (m + 1)) = Q at hq hd hz
    have hdb := w_twice (q := q) (by omega) (by omega)
    refine ⟨fun c => absurd ((w_ltI (by omega) (by omega)).mp c) (by omega), fun _ => q3_hasBit h hNz (by omega) (fun b1 => ⟨fun c => absurd c (by decide), fun _ y hy x hx => ?_⟩) (fun b0 => ⟨fun _ y hy x hx => ?_, fun c => absurd rfl c⟩)⟩
    · rw [hx, w_ng]
      refine ih (by omega) y ?_
      rw [hy, w_add64 (by rw [hdb]; show _ ≤ _ + (1 : Int); omega) (by rw [hdb]; show _ + (1 : Int) < _; omega), hdb, hq]
      show 2 * _ + (1 : Int) = _
      omega
    · rw [hx, w_ng]
      refine ih (by omega) y ?_
      rw [hy, Int64.add_zero, hdb, hq]
      omega
theorem q3_more_L {big : Nat → Int32} {N s : Nat} (h : EX 44 1012 big N) (hN : N < 2 ^ 1408) (hs2 : s < 1408) {X : Int32 → Int32 → Prop} (hX : ∀ a i, (a = 0 ↔ N % 2 ^ s = 0) → X a i) : ∀ m k, k + m = s → ∀ a : Int32, (a = 0 ↔ N % 2 ^ k = 0) → wX3_nearest_L176 big (Int32.ofNat (s + 1)) X (m + 1) a (Int32.ofNat k) := by
  have hNz : (N : Int) < z_P 44 := by rw [z_P44]; omega
  intro m
  induction m with
  | zero =>
    intro k hk a ha
    have e : k = s := by omega
    subst e
    unfold wX3_nearest_L176
    rw [w_prd']
    exact ⟨fun _ => hX _ _ ha, fun c => absurd (Int32.le_refl _) c⟩
  | succ m ih =>
    intro k hk a ha
    unfold wX3_nearest_L176
    rw [w_prd']
    refine ⟨fun c => absurd ((w_leI (by omega) (by omega)).mp c) (by omega), fun _ => ⟨fun c x2 hx2 => ?_, fun c => q3_hasBit h hNz (by omega) (fun b1 => ⟨fun d => absurd d (by decide), fun _ x2 hx2 => ?_⟩) (fun b0 => ⟨fun _ x2 hx2 => ?_, fun d => absurd rfl d⟩)⟩⟩
    · rw [hx2, w_suc]
      refine ih (k + 1) (by omega) 1 ?_
      rw [z_low0, ← ha]
      exact ⟨fun q => absurd q (by decide), fun q => absurd q.1 c⟩
    · rw [hx2, w_suc]
      refine ih (k + 1) (by omega) 1 ?_
      rw [z_low0]
      exact ⟨fun q => absurd q (by decide), fun q => by omega⟩
    · rw [hx2, w_suc]
      refine ih (k + 1) (by omega) 0 ?_
      rw [z_low0, ← ha]
      exact ⟨fun _ => ⟨c, b0⟩, fun _ => rfl⟩
theorem w_rem2 {q : Int64} {n : Nat} (h : q.toInt = (n : Int)) : jlrem q 2 = 1 ↔ n % 2 = 1 := by
  have hl := q.toInt_lt
  have e1 : (q / 2).toInt = ((n / 2 : Nat) : Int) := by
    rw [Int64.toInt_div, h, show (2 : Int64).toInt = 2 from rfl, Int.tdiv_eq_ediv_of_nonneg (by omega)]
    rw [Int.bmod_eq_of_le (by omega) (by omega)]
    omega
  have e2 : (q / 2 * 2).toInt = ((n / 2 : Nat) : Int) * 2 := by
    rw [w_mul64 (by rw [e1]; show _ ≤ _ * (2 : Int); omega) (by rw [e1]; show _ * (2 : Int) < _; omega), e1]
    rfl
  have e3 : (jlrem q 2).toInt = ((n % 2 : Nat) : Int) := by
    unfold jlrem
    rw [w_sub64 (by rw [e2, h]; omega) (by rw [e2, h]; omega), e2, h]
    omega
  rw [← Int64.toInt_inj, e3]
  show ((n % 2 : Nat) : Int) = 1 ↔ _
  omega
theorem q3_near_J168 {big : Nat → Int32} {N s : Nat} {sg : Int32} {q : Int64} {half : Int32} {K : UInt64 → (Nat → Int32) → Prop} (h : EX 44 1012 big N) (hN : N < 2 ^ 1408) (hs2 : s < 1408) (hq : q.toInt = ((N / 2 ^ s : Nat) : Int)) (hh : (s = 0 ∧ half = 0) ∨ (0 < s ∧ (half = 0 ↔ N / 2 ^ (s - 1) % 2 = 0))) (hm : FP.Core.nearest N (2 ^ s) ≤ 9007199254740992) (hK : ∀ d, zf d → zS d = false → zV d = ((FP.Core.nearest N (2 ^ s) * 2 ^ s : Nat) : Int) → vf_n64 (FP.dmul (FP.i2d sg) d) ∧ K (FP.dmul (FP.i2d sg) d) big) : wX3_nearest_J168 sg big K (Int32.ofNat s) q half := by
  have sc : ∀ v : Int64, v.toInt = ((FP.Core.nearest N (2 ^ s) : Nat) : Int) → wX3_scaled v (Int32.ofNat s) (fun (r : UInt64) => (vf_n64 (FP.dmul (FP.i2d sg) r) ∧ K (FP.dmul (FP.i2d sg) r) big)) := fun v hv => q3_scaled hv hm (by omega) hK
  have hd : N / 2 ^ s ≤ 9007199254740992 := Nat.le_trans (z_near_ge (Nat.two_pow_pos _) (Nat.div_mul_le_self _ _)) hm
  have inc : (q + 1).toInt = ((N / 2 ^ s + 1 : Nat) : Int) := by
    have hqb : 0 ≤ q.toInt ∧ q.toInt ≤ 9007199254740992 := by
      rw [hq]
      generalize N / 2 ^ s = Q at hd
      omega
    rw [w_add64 (by show _ ≤ _ + (1 : Int); omega) (by show _ + (1 : Int) < _; omega), hq]
    rfl
  rcases hh with ⟨s0, h0⟩ | ⟨s0, h0⟩
  · subst s0
    refine ⟨1, fun _ => ⟨fun _ => sc q (by rw [hq, z_near_1, Nat.pow_zero, Nat.div_one]), fun c => absurd h0 c⟩, fun c => absurd (by decide) c⟩
  · obtain ⟨t, rfl⟩ : ∃ t, s = t + 1 := ⟨s - 1, by omega⟩
    rw [Nat.add_sub_cancel] at h0
    refine ⟨t + 1, q3_more_L h hN (by omega) (fun a i ha => ⟨fun c => sc q ?_, fun c => ⟨fun d y hy => sc y ?_, fun d => ⟨fun e => sc q ?_, fun e y hy => sc y ?_⟩⟩⟩) t 0 (by omega) 0 ⟨fun _ => by rw [Nat.pow_zero, Nat.mod_one], fun _ => rfl⟩⟩
    · rw [z_near_bits, if_pos (h0.mp c), hq]
    · rw [z_near_bits, if_neg (fun q => c (h0.mpr q)), if_neg (fun q => d (ha.mpr q)), hy, inc]
    · have this : ¬ (N / 2 ^ (t + 1) % 2 = 1) := fun x => e ((w_rem2 hq).mpr x)
      rw [z_near_bits, if_neg (fun q => c (h0.mpr q)), if_pos (ha.mp d), hq]
      generalize N / 2 ^ (t + 1) = Q at *
      omega
    · have := (w_rem2 hq).mp e
      rw [z_near_bits, if_neg (fun q => c (h0.mpr q)), if_pos (ha.mp d), hy, inc, this]
theorem q3_near_J98 {big : Nat → Int32} {N s : Nat} {sg : Int32} {K : UInt64 → (Nat → Int32) → Prop} (h : EX 44 1012 big N) (hN0 : 0 < N) (hN : N < 2 ^ 1408) (hs : N < 2 ^ (s + 53)) (hs2 : s < 1408) (hK : ∀ d, zf d → zS d = false → zV d = ((FP.Core.nearest N (2 ^ s) * 2 ^ s : Nat) : Int) → vf_n64 (FP.dmul (FP.i2d sg) d) ∧ K (FP.dmul (FP.i2d sg) d) big) : wX3_nearest_J98 sg big K (Int32.ofNat N.log2) (Int32.ofNat s) := by
  have hNz : (N : Int) < z_P 44 := by rw [z_P44]; omega
  have hs3 : N < 2 ^ (s + 62) := Nat.lt_of_lt_of_le hs (Nat.pow_le_pow_right (by decide) (by omega))
  have hm : FP.Core.nearest N (2 ^ s) ≤ 9007199254740992 := z_near_pow (p := 53) (by rw [Nat.add_comm]; exact hs)
  have hl : N < 2 ^ (N.log2 + 1) := Nat.lt_log2_self
  have hl2 : N.log2 < 1408 := (Nat.log2_lt (by omega)).mpr hN
  have done : ∀ (q : Int64) (i : Int32), q.toInt = ((N / 2 ^ s : Nat) : Int) → ((Int32.ofNat s ≤ (0 : Int32) → (wX3_nearest_J168 sg big K (Int32.ofNat s) q (0 : Int32))) ∧ (¬ Int32.ofNat s ≤ (0 : Int32) → (wX3_hasBit (23 : Int32) (Int32.ofNat s - (1 : Int32)) big (fun (r_43 : Int32) => ((r_43 = (0 : Int32) → (wX3_nearest_J168 sg big K (Int32.ofNat s) q (0 : Int32))) ∧ (¬ r_43 = (0 : Int32) → (wX3_nearest_J168 sg big K (Int32.ofNat s) q (1 : Int32)))))))) := by
    intro q i hq
    refine ⟨fun c => ?_, fun c => ?_⟩
    · have : s = 0 := by
        have := (w_leI (b := 0) (by omega) (by omega)).mp c
        omega
      exact q3_near_J168 h hN hs2 hq (Or.inl ⟨this, rfl⟩) hm hK
    · have s0 : 0 < s := by
        rcases Nat.eq_zero_or_pos s with q | q
        · subst q; exact absurd (Int32.le_refl _) c
        · exact q
      have e : Int32.ofNat s - 1 = Int32.ofNat (s - 1) := by
        have := w_prd' (s - 1)
        rw [show s - 1 + 1 = s by omega] at this
        exact this
      rw [e]
      refine q3_hasBit h hNz (by omega) (fun b1 => ⟨fun c => absurd c (by decide), fun _ => ?_⟩) (fun b0 => ⟨fun _ => ?_, fun c => absurd rfl c⟩)
      · exact q3_near_J168 h hN hs2 hq (Or.inr ⟨s0, ⟨fun d => absurd d (by decide), fun d => by omega⟩⟩) hm hK
      · exact q3_near_J168 h hN hs2 hq (Or.inr ⟨s0, ⟨fun _ => b0, fun _ => rfl⟩⟩) hm hK
  by_cases c : N.log2 < s
  · refine ⟨1, fun _ => done 0 0 ?_, fun d => absurd ((w_ltI (by omega) (by omega)).mpr c) d⟩
    rw [Nat.div_eq_of_lt (Nat.lt_of_lt_of_le hl (Nat.pow_le_pow_right (by decide) c))]
    rfl
  · have := q3_m_L h hN hs3 hs2 done (N.log2 + 1 - s) (by omega) 0 (by
      rw [show s + (N.log2 + 1 - s) = N.log2 + 1 by omega, Nat.div_eq_of_lt hl]; rfl)
    rw [show s + (N.log2 + 1 - s) = N.log2 + 1 by omega, w_prd'] at this
    exact ⟨_, this⟩
theorem z_rs_0 {p m : Nat} : z_rs p m 0 = 0 := by
  unfold z_rs
  rw [if_neg (by omega), show (0 : Int).natAbs = 0 from rfl, z_rn_zero]
  rfl
/-- the exact number rounded in a kind -/
def z_kd (p1 : Int32) (z : Int) : Int := if p1 = 0 then z_rs 24 925 z else z_rs 53 0 z
theorem q3_near_J29 {big : Nat → Int32} {N : Nat} {p1 sg : Int32} {K : UInt64 → (Nat → Int32) → Prop} (h : EX 44 1012 big N) (hN0 : 0 < N) (hN : N < 2 ^ 1300) (hK : ∀ d, zf d → zS d = false → zV d = z_kd p1 (N : Int) → vf_n64 (FP.dmul (FP.i2d sg) d) ∧ K (FP.dmul (FP.i2d sg) d) big) : wX3_nearest_J29 p1 K sg big := by
  have hl : N < 2 ^ (N.log2 + 1) := Nat.lt_log2_self
  have hN2 : N < 2 ^ 1408 := Nat.lt_of_lt_of_le hN (Nat.pow_le_pow_right (by decide) (by decide))
  have hl2 : N.log2 < 1300 := (Nat.log2_lt (by omega)).mpr hN
  have fin : ∀ (p m : Nat), 1 ≤ p → p ≤ 53 → m < 1300 → z_kd p1 (N : Int) = z_rs p m (N : Int) → ∀ s, s = z_sh p m N → wX3_nearest_J98 sg big K (Int32.ofNat N.log2) (Int32.ofNat s) := by
    intro p m hp hp2 hm2 hk s hs
    have hs1 : s = max m (N.log2 + 1 - p) := hs
    refine q3_near_J98 h hN0 hN2 (Nat.lt_of_lt_of_le hl (Nat.pow_le_pow_right (by decide) (by omega))) (by omega) (fun d d1 d2 d3 => hK d d1 d2 ?_)
    rw [d3, hk]
    unfold z_rs
    rw [if_neg (by omega), show ((N : Int)).natAbs = N by omega]
    unfold z_rn
    rw [← hs]
  have sub : ∀ k : Nat, k < 100 → (Int32.ofNat N.log2 - Int32.ofNat k).toInt = (N.log2 : Int) - k := by
    intro k hk
    rw [w_sub32 (by rw [nI_int (by omega), nI_int (by omega)]; omega) (by rw [nI_int (by omega), nI_int (by omega)]; omega), nI_int (by omega), nI_int (by omega)]
  refine ⟨1408, q3_top_L h hN0 hN2 ⟨fun c => ⟨fun c1 x hx => ⟨fun _ => ?_, fun c2 => ?_⟩, fun c1 => ?_⟩, fun c x hx => ⟨fun c1 => ?_, fun c1 => ?_⟩⟩ 1407 (by omega) hN2⟩
  · have e := sub 23 (by omega)
    rw [Int32.le_iff_toInt_le, show (925 : Int32).toInt = 925 by decide] at c1
    have c1 : 925 ≤ (Int32.ofNat N.log2 - Int32.ofNat 23).toInt := c1
    have ex : x = Int32.ofNat (N.log2 - 23) := by
      rw [hx, ← Int32.toInt_inj, nI_int (by omega)]
      refine (show (Int32.ofNat N.log2 - 23).toInt = _ from e).trans ?_
      omega
    rw [ex]
    exact fin 24 925 (by decide) (by decide) (by decide) (by unfold z_kd; rw [if_pos c]) _ (by unfold z_sh; omega)
  · have e := sub 23 (by omega)
    rw [Int32.le_iff_toInt_le, show (925 : Int32).toInt = 925 by decide] at c1
    have c1 : 925 ≤ (Int32.ofNat N.log2 - Int32.ofNat 23).toInt := c1
    rw [hx, Int32.le_iff_toInt_le, Int32.toInt_zero] at c2
    exact absurd (show (0 : Int) ≤ (Int32.ofNat N.log2 - Int32.ofNat 23).toInt by omega) c2
  · have e := sub 23 (by omega)
    rw [Int32.le_iff_toInt_le, show (925 : Int32).toInt = 925 by decide] at c1
    have c1 : ¬ 925 ≤ (Int32.ofNat N.log2 - Int32.ofNat 23).toInt := c1
    exact fin 24 925 (by decide) (by decide) (by decide) (by unfold z_kd; rw [if_pos c]) 925 (by unfold z_sh; omega)
  · have e := sub 52 (by omega)
    rw [hx, Int32.le_iff_toInt_le, Int32.toInt_zero] at c1
    have c1 : 0 ≤ (Int32.ofNat N.log2 - Int32.ofNat 52).toInt := c1
    have ex : x = Int32.ofNat (N.log2 - 52) := by
      rw [hx, ← Int32.toInt_inj, nI_int (by omega)]
      refine (show (Int32.ofNat N.log2 - 52).toInt = _ from e).trans ?_
      omega
    rw [ex]
    exact fin 53 0 (by decide) (by decide) (by decide) (by unfold z_kd; rw [if_neg c]) _ (by unfold z_sh; omega)
  · have e := sub 52 (by omega)
    rw [hx, Int32.le_iff_toInt_le, Int32.toInt_zero] at c1
    have c1 : ¬ 0 ≤ (Int32.ofNat N.log2 - Int32.ofNat 52).toInt := c1
    exact fin 53 0 (by decide) (by decide) (by decide) (by unfold z_kd; rw [if_neg c]) 0 (by unfold z_sh; omega)
theorem q3_nearest {s : Nat} (hs : s < 23) {big : Nat → Int32} {z : Int} {p1 : Int32} {K : UInt64 → (Nat → Int32) → Prop} (h : EX 44 (44 * s) big z) (hz : z.natAbs < 2 ^ 1240) (hK : ∀ d b', zf d → zS d = decide (z < 0) → zV d = z_kd p1 z → (∀ i, i < 1012 → b' i = big i) → K d b') : wX3_nearest (Int32.ofNat s) p1 big K := by
  have hP := z_P43
  have hp1 : (2 : Nat) ^ 1240 ≤ 2 ^ 1407 := Nat.pow_le_pow_right (by decide) (by decide)
  have hp2 : (2 : Nat) ^ 1240 ≤ 2 ^ 1300 := Nat.pow_le_pow_right (by decide) (by decide)
  have bd : ∀ N : Nat, N < 2 ^ 1240 → (z_kd p1 (N : Int)).natAbs ≤ 2 ^ 2097 := by
    intro N hN
    unfold z_kd
    have h1 : (2 : Nat) ^ 1240 ≤ 2 ^ 2097 := Nat.pow_le_pow_right (by decide) (by decide)
    have e : ∀ p m, 1 ≤ p → m ≤ 1240 → (z_rs p m (N : Int)).natAbs ≤ 1 * 2 ^ 1240 := fun p m hp hm => z_rs_le hp Nat.one_le_two_pow hm (by omega)
    split
    · have := e 24 925 (by decide) (by decide); omega
    · have := e 53 0 (by decide) (by decide); omega
  have neg : ∀ N : Nat, z_kd p1 (-(N : Int)) = -z_kd p1 (N : Int) := by
    intro N
    unfold z_kd
    split
    · exact z_rs_sgn.2.2
    · exact z_rs_sgn.2.2
  refine q3_sign (by omega) h (by omega) (by omega) ?_
  unfold z_sg
  by_cases c : z < 0
  · rw [if_pos c]
    refine ⟨fun _ => q3_copy (s := 23) (by decide) (by omega) (by omega) h (fun b1 e1 o1 => ⟨fun d => absurd d (by decide), fun _ => q3_negate (s := 23) (by decide) e1 (fun b2 e2 o2 => ?_)⟩), fun d => absurd d (by decide)⟩
    refine q3_near_J29 (N := z.natAbs) (by rw [show ((z.natAbs : Nat) : Int) = -z by omega]; exact e2) (by omega) (by omega) (fun d d1 d2 d3 => ?_)
    obtain ⟨m1, m2, m3⟩ := z_mul1 z_in1 d1 (by rw [d3]; exact bd _ hz)
    refine ⟨z_n64 m1, hK _ _ m1 (by rw [m3, d2, decide_eq_true c]; rfl) ?_ (fun i hi => (o2 i (by omega)).trans (o1 i (by omega)))⟩
    rw [m2, d3, if_pos rfl, ← neg, show -((z.natAbs : Nat) : Int) = z by omega]
  · rw [if_neg c]
    by_cases c0 : z = 0
    · rw [if_pos c0]
      refine ⟨fun d => absurd rfl d, fun _ => hK _ _ z_0.1 (by rw [z_0.2.2, decide_eq_false c]) ?_ (fun i _ => rfl)⟩
      rw [z_0.2.1, c0]
      unfold z_kd
      rw [z_rs_0, z_rs_0]
      split <;> rfl
    · rw [if_neg c0]
      refine ⟨fun _ => q3_copy (s := 23) (by decide) (by omega) (by omega) h (fun b1 e1 o1 => ⟨fun _ => ?_, fun d => absurd (by decide) d⟩), fun d => absurd d (by decide)⟩
      refine q3_near_J29 (N := z.natAbs) (EX_abs e1 (by omega)) (by omega) (by omega) (fun d d1 d2 d3 => ?_)
      obtain ⟨m1, m2, m3⟩ := z_mul1 z_i1 d1 (by rw [d3]; exact bd _ hz)
      refine ⟨z_n64 m1, hK _ _ m1 (by rw [m3, d2, decide_eq_false c]; rfl) ?_ (fun i hi => o1 i (by omega))⟩
      rw [m2, d3, if_neg (by decide), show ((z.natAbs : Nat) : Int) = z by omega]
