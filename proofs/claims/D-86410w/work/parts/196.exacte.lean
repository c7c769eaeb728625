/-! Exact numbers: bits, rounding; the component's. By hand -/
theorem z_P_pow (k : Nat) : z_P k = (2 : Int) ^ (32 * k) := by
  unfold z_P
  rw [Int.natCast_pow]
  rfl
theorem w_p2 (k : Nat) : ((2 ^ k : Nat) : Int) = (2 : Int) ^ k := by
  rw [Int.natCast_pow]
  rfl
theorem w_p2pos (k : Nat) : (0 : Int) < (2 : Int) ^ k := by
  rw [← w_p2]
  have := Nat.two_pow_pos k
  omega
theorem EX_bit {n o : Nat} {f : Nat → Int32} {N p : Nat} (h : EX n o f N) (hN : (N : Int) < z_P n) (hp : p < 32 * n) : z_w (f (o + p / 32)) / (2 : Int) ^ (p % 32) % 2 = ((N / 2 ^ p % 2 : Nat) : Int) := by
  have h : z_W (fun j => z_w (f (o + j))) n = (N : Int) % z_P n := h
  rw [Int.emod_eq_of_lt (by omega) hN] at h
  obtain ⟨v, b, hv, hb⟩ : ∃ v b, v = p / 32 ∧ b = p % 32 := ⟨_, _, rfl, rfl⟩
  have hp2 : p = 32 * v + b := by omega
  rw [← hv, ← hb]
  have hbd := EX_bd v o f
  have e1 : (N : Int) = z_W (fun j => z_w (f (o + j))) v + (z_w (f (o + v)) + z_W (fun j => z_w (f (o + (v + 1 + j)))) (n - (v + 1)) * 4294967296) * z_P v := by
    rw [← h, show n = (v + 1) + (n - (v + 1)) by omega, z_W_split, show v + 1 + (n - (v + 1)) - (v + 1) = n - (v + 1) by omega, z_P_succ]
    show z_W _ v + z_w (f (o + v)) * z_P v + _ = _
    rw [Int.add_mul, Int.mul_assoc _ 4294967296, Int.mul_comm 4294967296 (z_P v), Int.add_assoc]
  have e2 : (N : Int) / z_P v = z_w (f (o + v)) + z_W (fun j => z_w (f (o + (v + 1 + j)))) (n - (v + 1)) * 4294967296 := by
    rw [e1, Int.add_mul_ediv_right _ _ (by have := z_P_pos v; omega), Int.ediv_eq_zero_of_lt hbd.1 hbd.2]
    omega
  have e3 : ((N / 2 ^ p % 2 : Nat) : Int) = (N : Int) / z_P v / (2 : Int) ^ b % 2 := by
    rw [Int.natCast_emod, Int.natCast_ediv, w_p2, hp2, Int.pow_add, ← z_P_pow, Int.ediv_ediv_of_nonneg (by have := z_P_pos v; omega)]
    rfl
  rw [e3, e2, show (4294967296 : Int) = 2 * (2 : Int) ^ (31 - b) * (2 : Int) ^ b by
    rw [Int.mul_assoc, ← Int.pow_add, show 31 - b + b = 31 by omega]; rfl]
  rw [← Int.mul_assoc, Int.add_mul_ediv_right _ _ (by have := w_p2pos b; omega), Int.mul_comm _ (2 * (2 : Int) ^ (31 - b)), Int.mul_assoc, Int.add_mul_emod_self_left]
theorem w_bitu (x : Int32) {b : Nat} (hb : b < 32) : ((jiushr x (Int32.ofNat b)) &&& 1).toInt = z_w x / (2 : Int) ^ b % 2 := by
  rw [w_and32 (k := 1) (by decide) rfl, w_mod32 _ (by decide)]
  have e : (jiushr x (Int32.ofNat b)).toBitVec.toNat = x.toBitVec.toNat / 2 ^ b := by
    show (x.toUInt32 >>> ((Int32.ofNat b).toUInt32 &&& Int32.toUInt32 31)).toNat = _
    rw [UInt32.toNat_shiftRight, (w_sh31 ⟨b, hb⟩).2, Nat.shiftRight_eq_div_pow]
    rfl
  rw [e, z_w_nat, Int.natCast_emod, Int.natCast_ediv, w_p2]
  rfl
theorem w_bits (x : Int32) {b : Nat} (hb : b < 32) : ((jishr x (Int32.ofNat b)) &&& 1).toInt = z_w x / (2 : Int) ^ b % 2 := by
  rw [w_and32 (k := 1) (by decide) rfl, w_ishr hb]
  have h1 := x.toInt_lt
  have h2 := x.le_toInt
  by_cases c : 0 ≤ x.toInt
  · rw [show z_w x = x.toInt by unfold z_w; omega]
    rfl
  · rw [show z_w x = x.toInt + 4294967296 by unfold z_w; omega, show (4294967296 : Int) = 2 * (2 : Int) ^ (31 - b) * (2 : Int) ^ b by
      rw [Int.mul_assoc, ← Int.pow_add, show 31 - b + b = 31 by omega]; rfl]
    rw [Int.add_mul_ediv_right _ _ (by have := w_p2pos b; omega), Int.add_mul_emod_self_left]
    rfl
theorem w_idx {p : Nat} (hp : p < 2000000) : jishr (Int32.ofNat p) 5 = Int32.ofNat (p / 32) ∧ (Int32.ofNat p &&& 31) = Int32.ofNat (p % 32) := by
  refine ⟨?_, ?_⟩
  · rw [← Int32.toInt_inj, show (5 : Int32) = Int32.ofNat 5 from rfl, w_ishr (by decide), nI_int (by omega), nI_int (by omega)]
    rfl
  · rw [← Int32.toInt_inj, w_and32 (k := 5) (by decide) rfl, nI_int (by omega), nI_int (by omega)]
    rfl
theorem w_one {x : Int32} {b : Nat} (h : x.toInt = (b : Int)) (hb : b < 2000000) : (x = 1 ↔ b = 1) := by
  have e : x = Int32.ofNat b := by
    rw [← Int32.toInt_inj, h, nI_int (by omega)]
  rw [e]
  exact w_eqI (b := 1) hb (by omega)
theorem q2_isSet {w : Nat → Int32} {N p : Nat} {K : Int32 → Prop} (h : EX 40 0 w N) (hN : (N : Int) < z_P 40) (hp : p < 1280) (h1 : N / 2 ^ p % 2 = 1 → K 1) (h0 : N / 2 ^ p % 2 = 0 → K 0) : wX2_isSet (Int32.ofNat p) w K := by
  obtain ⟨e1, e2⟩ := w_idx (p := p) (by omega)
  unfold wX2_isSet
  rw [e1, e2, w_cl (by omega)]
  have hb := w_bitu (w (p / 32)) (b := p % 32) (by omega)
  have hx := EX_bit h hN hp
  rw [Nat.zero_add] at hx
  rw [hx] at hb
  have hk := w_one hb (by omega)
  refine ⟨w_in (by omega) (by omega), fun c => h0 ?_, fun c => h1 (hk.mp c)⟩
  have : ¬ N / 2 ^ p % 2 = 1 := fun q => c (hk.mpr q)
  omega
theorem z_P40 : z_P 40 = ((2 ^ 1280 : Nat) : Int) := rfl
theorem z_bit0 {N k : Nat} (h : N < 2 ^ (k + 1)) (h0 : N / 2 ^ k % 2 = 0) : N < 2 ^ k := by
  have h1 : N / 2 ^ k < 2 := by
    refine Nat.div_lt_of_lt_mul ?_
    rw [← Nat.pow_succ]
    exact h
  have h2 : N / 2 ^ k = 0 := by
    generalize N / 2 ^ k = q at h0 h1
    omega
  have := Nat.div_eq_zero_iff.mp h2
  have := Nat.two_pow_pos k
  omega
theorem z_bit1 {N k : Nat} (h1 : N / 2 ^ k % 2 = 1) : 2 ^ k ≤ N := by
  refine Nat.le_of_not_lt fun c => ?_
  rw [Nat.div_eq_of_lt c] at h1
  omega
theorem q2_length_L {w : Nat → Int32} {N : Nat} (h : EX 40 0 w N) (hN : N < 2 ^ 1280) {X : Int32 → Prop} (hK : ∀ n, n ≤ 1280 → N < 2 ^ n → (n = 0 ∨ 2 ^ (n - 1) ≤ N) → X (Int32.ofNat n)) : ∀ k, k ≤ 1280 → N < 2 ^ k → wX2_length_L4 w X (k + 1) (Int32.ofNat k) := by
  intro k
  induction k with
  | zero => intro _ hk; exact ⟨fun _ => hK 0 (by omega) hk (Or.inl rfl), fun c => absurd (Int32.le_refl _) c⟩
  | succ k ih =>
    intro hk hlt
    refine ⟨fun c => absurd ((w_leI (b := 0) (by omega) (by omega)).mp c) (by omega), fun _ => ?_⟩
    rw [w_prd']
    refine q2_isSet h (by rw [z_P40]; omega) (by omega) (fun b1 => ⟨fun _ => hK (k + 1) hk hlt (Or.inr (z_bit1 b1)), fun c => absurd c (by decide)⟩) (fun b0 => ⟨fun c => absurd rfl c, fun _ x hx => ?_⟩)
    rw [hx, w_prd]
    exact ih (by omega) (z_bit0 hlt b0)
theorem q2_length {w : Nat → Int32} {N : Nat} (h : EX 40 0 w N) (hN : N < 2 ^ 1280) {K : Int32 → Prop} (hK : ∀ n, n ≤ 1280 → N < 2 ^ n → (n = 0 ∨ 2 ^ (n - 1) ≤ N) → K (Int32.ofNat n)) : wX2_length w K := ⟨1281, q2_length_L h hN hK 1280 (Nat.le_refl _) hN⟩
theorem w_or1 {a : Int64} (h0 : 0 ≤ a.toInt) (h : a.toInt % 2 = 0) : (a ||| 1).toInt = a.toInt + 1 ∧ (a ||| 0).toInt = a.toInt := by
  have hn := w_nn64 h0
  have hl := a.toInt_lt
  have e : (a ||| 1).toBitVec.toNat = a.toBitVec.toNat + 1 := by
    show (a.toBitVec ||| 1#64).toNat = _
    rw [BitVec.toNat_or]
    have := Nat.two_pow_add_eq_or_of_lt (b := 1) (i := 1) (by decide) (a.toBitVec.toNat / 2)
    rw [show 2 ^ 1 * (a.toBitVec.toNat / 2) = a.toBitVec.toNat by omega] at this
    exact this.symm
  refine ⟨?_, ?_⟩
  · have : (a ||| 1).toInt = (((a ||| 1).toBitVec.toNat : Nat) : Int) := BitVec.toInt_eq_toNat_of_lt (by rw [e]; omega)
    rw [this, e]
    omega
  · show (a.toBitVec ||| 0#64).toInt = a.toBitVec.toInt
    rw [BitVec.or_zero]
theorem w_dbl {q : Int64} (h0 : 0 ≤ q.toInt) (h1 : q.toInt < 4611686018427387904) : (jlshl q 1).toInt = 2 * q.toInt := by
  have := w_lshl (y := q) (k := 1) (by decide) (by omega) (by omega)
  refine (show (jlshl q 1).toInt = _ from this).trans ?_
  omega
theorem z_shr {N k : Nat} : N / 2 ^ k = 2 * (N / 2 ^ (k + 1)) + N / 2 ^ k % 2 := by
  rw [Nat.pow_succ, ← Nat.div_div_eq_div_mul]
  omega
theorem z_div_bd {N s k : Nat} (h : N < 2 ^ (s + 62)) (hk : s ≤ k) : N / 2 ^ k < 4611686018427387904 := by
  refine Nat.div_lt_of_lt_mul ?_
  refine Nat.lt_of_lt_of_le h ?_
  rw [show 4611686018427387904 = 2 ^ 62 from rfl, ← Nat.pow_add]
  exact Nat.pow_le_pow_right (by decide) (by omega)
theorem q2_rnd_L10 {w : Nat → Int32} {N s : Nat} (h : EX 40 0 w N) (hN : N < 2 ^ 1280) (hs : N < 2 ^ (s + 62)) (hs2 : s < 1280) {X : Int64 → Int32 → Prop} (hX : ∀ (q : Int64) i, q.toInt = ((N / 2 ^ s : Nat) : Int) → X q i) : ∀ m, s + m ≤ 1280 → ∀ q : Int64, q.toInt = ((N / 2 ^ (s + m) : Nat) : Int) → wX2_rounded_L10 w (Int32.ofNat s) X (m + 1) q (Int32.ofNat (s + m) - 1) := by
  intro m
  induction m with
  | zero =>
    intro _ q hq
    have e : (Int32.ofNat (s + 0) - 1).toInt = (s : Int) - 1 := by
      rw [w_sub32 (by rw [nI_int (by omega)]; show _ ≤ _ - (1 : Int); omega) (by rw [nI_int (by omega)]; show _ - (1 : Int) < _; omega), nI_int (by omega)]
      rfl
    have lt : (Int32.ofNat (s + 0) - 1) < Int32.ofNat s := by
      rw [Int32.lt_iff_toInt_lt, e, nI_int (by omega)]
      omega
    exact ⟨fun _ => hX q _ hq, fun c => absurd lt c⟩
  | succ m ih =>
    intro hm q hq
    rw [show s + (m + 1) = (s + m) + 1 from rfl, w_prd']
    have hd := z_div_bd hs (show s ≤ s + (m + 1) by omega)
    have hz := z_shr (N := N) (k := s + m)
    have hz : N / 2 ^ (s + m) = 2 * (N / 2 ^ (s + (m + 1))) + N / 2 ^ (s + m) % 2 := hz
    generalize N / 2 ^ (s + (m + 1)) = Q at hq hd hz
    have hdb := w_dbl (q := q) (by omega) (by omega)
    obtain ⟨o1, o2⟩ := w_or1 (a := jlshl q 1) (by omega) (by omega)
    refine ⟨fun c => absurd ((w_ltI (by omega) (by omega)).mp c) (by omega), fun _ => q2_isSet h (by rw [z_P40]; omega) (by omega) (fun b1 => ⟨fun c => absurd c (by decide), fun _ y hy x hx => ?_⟩) (fun b0 => ⟨fun _ y hy x hx => ?_, fun c => absurd rfl c⟩)⟩
    · rw [hx, w_ng]
      exact ih (by omega) y (by rw [hy, o1, hdb, hq]; omega)
    · rw [hx, w_ng]
      exact ih (by omega) y (by rw [hy, o2, hdb, hq]; omega)
theorem z_low {N k : Nat} : N % 2 ^ (k + 1) = N % 2 ^ k + (N / 2 ^ k % 2) * 2 ^ k := by
  have e := Nat.mod_mul (x := N) (a := 2 ^ k) (b := 2)
  rw [← Nat.pow_succ] at e
  rw [e, Nat.mul_comm]
theorem z_low0 {N k : Nat} : N % 2 ^ (k + 1) = 0 ↔ N % 2 ^ k = 0 ∧ N / 2 ^ k % 2 = 0 := by
  rw [z_low]
  have := Nat.two_pow_pos k
  rcases Nat.mod_two_eq_zero_or_one (N / 2 ^ k) with h | h <;> rw [h] <;> omega
theorem q2_rnd_L68 {w : Nat → Int32} {N s : Nat} (h : EX 40 0 w N) (hN : N < 2 ^ 1280) (hs2 : s < 1280) {X : Int32 → Int32 → Prop} (hX : ∀ a i, (a = 0 ↔ N % 2 ^ s = 0) → X a i) : ∀ m k, k + m = s → ∀ a : Int32, (a = 0 ↔ N % 2 ^ k = 0) → wX2_rounded_L68 w (Int32.ofNat (s + 1)) X (m + 1) a (Int32.ofNat k) := by
  intro m
  induction m with
  | zero =>
    intro k hk a ha
    have e : k = s := by omega
    subst e
    unfold wX2_rounded_L68
    rw [w_prd']
    exact ⟨fun _ => hX _ _ ha, fun c => absurd (Int32.le_refl _) c⟩
  | succ m ih =>
    intro k hk a ha
    unfold wX2_rounded_L68
    rw [w_prd']
    refine ⟨fun c => absurd ((w_leI (by omega) (by omega)).mp c) (by omega), fun _ => q2_isSet h (by rw [z_P40]; omega) (by omega) (fun b1 x hx x2 hx2 => ?_) (fun b0 x hx x2 hx2 => ?_)⟩
    · rw [hx2, w_suc]
      refine ih (k + 1) (by omega) x ?_
      rw [hx, w_or0, z_low0, ha]
      refine ⟨fun q => absurd q.2 (by decide), fun q => by omega⟩
    · rw [hx2, w_suc]
      refine ih (k + 1) (by omega) x ?_
      rw [hx, w_or0, z_low0, ha]
      exact ⟨fun q => ⟨q.1, b0⟩, fun q => ⟨q.1, rfl⟩⟩
theorem z_near_bits {N s : Nat} : FP.Core.nearest N (2 ^ (s + 1)) = if N / 2 ^ s % 2 = 0 then N / 2 ^ (s + 1) else if N % 2 ^ s = 0 then N / 2 ^ (s + 1) + N / 2 ^ (s + 1) % 2 else N / 2 ^ (s + 1) + 1 := by
  have hl := z_low (N := N) (k := s)
  have hm := Nat.mod_lt N (Nat.two_pow_pos s)
  have hp : 2 ^ (s + 1) = 2 * 2 ^ s := by rw [Nat.pow_succ, Nat.mul_comm]
  unfold FP.Core.nearest
  by_cases c : N / 2 ^ s % 2 = 0
  · rw [if_pos c]
    rw [c] at hl
    rw [if_pos (by omega)]
  · rw [if_neg c]
    have c1 : N / 2 ^ s % 2 = 1 := by omega
    rw [c1] at hl
    rw [if_neg (by omega)]
    by_cases d : N % 2 ^ s = 0
    · rw [if_pos d, if_neg (by omega)]
    · rw [if_neg d, if_pos (by omega)]
theorem z_near_1 {N : Nat} : FP.Core.nearest N (2 ^ 0) = N := by
  unfold FP.Core.nearest
  rw [Nat.pow_zero, Nat.mod_one, if_pos (by omega), Nat.div_one]
theorem w_odd {q : Int64} {n : Nat} (h : q.toInt = (n : Int)) : (q &&& 1) = 1 ↔ n % 2 = 1 := by
  rw [← Int64.toInt_inj, w_and64 (k := 1) (by decide) rfl, h]
  show (n : Int) % 2 = 1 ↔ _
  omega
theorem q2_rounded {w : Nat → Int32} {N s : Nat} (h : EX 40 0 w N) (hN : N < 2 ^ 1280) (hs : N < 2 ^ (s + 62)) (hs2 : s < 1280) {K : Int64 → Prop} (hK : ∀ q : Int64, q.toInt = ((FP.Core.nearest N (2 ^ s) : Nat) : Int) → K q) : wX2_rounded (Int32.ofNat s) w K := by
  refine q2_length h hN (fun n hn h1 h2 x hx => ?_)
  subst hx
  have done : ∀ (q : Int64) (i : Int32), q.toInt = ((N / 2 ^ s : Nat) : Int) → ((Int32.ofNat s ≤ (0 : Int32) → (wX2_rounded_J60 w (Int32.ofNat s) K q (0 : Int32))) ∧ (¬ Int32.ofNat s ≤ (0 : Int32) → (wX2_isSet (Int32.ofNat s - (1 : Int32)) w (fun (r_25 : Int32) => ((r_25 = (0 : Int32) → (wX2_rounded_J60 w (Int32.ofNat s) K q (0 : Int32))) ∧ (¬ r_25 = (0 : Int32) → (wX2_rounded_J60 w (Int32.ofNat s) K q (1 : Int32)))))))) := by
    intro q i hq
    by_cases s0 : s = 0
    · subst s0
      refine ⟨fun _ => ⟨1, fun _ => ⟨fun _ => hK q (by rw [z_near_1, hq, Nat.pow_zero, Nat.div_one]), fun c => absurd rfl c⟩, fun c => absurd (by decide) c⟩, fun c => absurd (by decide) c⟩
    · obtain ⟨s, rfl⟩ : ∃ t, s = t + 1 := ⟨s - 1, by omega⟩
      have hd := z_div_bd hs (Nat.le_refl _)
      refine ⟨fun c => absurd ((w_leI (b := 0) (by omega) (by omega)).mp c) (by omega), fun _ => ?_⟩
      rw [w_prd']
      have hq2 : 0 ≤ q.toInt ∧ q.toInt < 4611686018427387904 := by
        rw [hq]
        generalize N / 2 ^ (s + 1) = Q at hd
        omega
      refine q2_isSet h (by rw [z_P40]; omega) (by omega) (fun b1 => ⟨fun c => absurd c (by decide), fun _ => ⟨s + 1, q2_rnd_L68 h hN (by omega) (fun a i ha => ⟨fun c => absurd c (by decide), fun _ => ⟨fun c => hK _ ?_, fun c => ⟨fun d => hK _ ?_, fun d => hK _ ?_⟩⟩⟩) s 0 (by omega) 0 ⟨fun _ => by rw [Nat.pow_zero, Nat.mod_one], fun _ => rfl⟩⟩⟩) (fun b0 => ⟨fun _ => ⟨s + 1, q2_rnd_L68 h hN (by omega) (fun a i ha => ⟨fun _ => hK _ ?_, fun c => absurd rfl c⟩) s 0 (by omega) 0 ⟨fun _ => by rw [Nat.pow_zero, Nat.mod_one], fun _ => rfl⟩⟩, fun c => absurd rfl c⟩)
      · rw [z_near_bits, if_neg (by omega), if_neg (fun q => c (ha.mpr q)), w_add64 (by show _ ≤ _ + (1 : Int); omega) (by show _ + (1 : Int) < _; omega), hq]
        rfl
      · have this : ¬ (N / 2 ^ (s + 1) % 2 = 1) := fun q => d ((w_odd hq).mpr q)
        rw [z_near_bits, if_neg (by omega), if_pos (ha.mp c), hq]
        generalize N / 2 ^ (s + 1) = Q at *
        omega
      · have := (w_odd hq).mp d
        rw [z_near_bits, if_neg (by omega), if_pos (ha.mp c), w_add64 (by show _ ≤ _ + (1 : Int); omega) (by show _ + (1 : Int) < _; omega), hq, this]
        rfl
      · rw [z_near_bits, if_pos b0, hq]
  by_cases c : n ≤ s
  · refine ⟨1, fun _ => done 0 0 ?_, fun d => absurd ?_ d⟩
    · rw [Nat.div_eq_of_lt (Nat.lt_of_lt_of_le h1 (Nat.pow_le_pow_right (by decide) c))]
      rfl
    · rw [Int32.lt_iff_toInt_lt, nI_int (by omega), w_sub32 (by rw [nI_int (by omega)]; show _ ≤ _ - (1 : Int); omega) (by rw [nI_int (by omega)]; show _ - (1 : Int) < _; omega), nI_int (by omega)]
      show (n : Int) - 1 < _
      omega
  · have := q2_rnd_L10 h hN hs hs2 done (n - s) (by omega) 0 (by
      rw [show s + (n - s) = n by omega, Nat.div_eq_of_lt h1]; rfl)
    rw [show s + (n - s) = n by omega] at this
    exact ⟨_, this⟩
/-- the bits of a rounded number -/
theorem z_mk {u : UInt64} {s q : Nat} (hs : s < 2044) (hq : q ≤ 9007199254740992) (hl : s = 0 ∨ 4503599627370496 ≤ q) (hu : u.toNat = s * 4503599627370496 + q) : zf u ∧ zS u = false ∧ zV u = ((q * 2 ^ s : Nat) : Int) := by
  have hE : FP.Core.fieldE FP.Core.b64 u.toNat = u.toNat / 4503599627370496 % 2048 := z_E _
  have hf : zf u := by
    unfold zf
    rw [hE]
    omega
  have hS : zS u = false := by
    rw [z_zS]
    exact decide_eq_false (by omega)
  refine ⟨hf, hS, ?_⟩
  rw [z_val hf, hS]
  show ((z_mg FP.Core.b64 u.toNat : Nat) : Int) = _
  refine congrArg (fun n : Nat => (n : Int)) ?_
  unfold z_mg
  rw [hE, z_T, z_m64, z_k64.2.1]
  by_cases c : q = 9007199254740992
  · rw [show u.toNat / 4503599627370496 % 2048 = s + 2 by omega, show u.toNat % 4503599627370496 = 0 by omega, if_neg (by omega), show 0 + (s + 2 - 1) = s + 1 by omega, Nat.pow_succ, c]
    omega
  · by_cases d : q < 4503599627370496
    · have : s = 0 := by omega
      subst this
      rw [show u.toNat / 4503599627370496 % 2048 = 0 by omega, if_pos rfl, show u.toNat % 4503599627370496 = q by omega]
    · rw [show u.toNat / 4503599627370496 % 2048 = s + 1 by omega, if_neg (by omega), show u.toNat % 4503599627370496 = q - 4503599627370496 by omega, show 0 + (s + 1 - 1) = s by omega, show 4503599627370496 + (q - 4503599627370496) = q by omega]
theorem f_mk {u : UInt32} {s q : Nat} (hs : s < 252) (hq : q ≤ 16777216) (hl : s = 0 ∨ 8388608 ≤ q) (hu : u.toNat = s * 8388608 + q) : ff u ∧ fS u = false ∧ fV u = ((q * 2 ^ (s + 925) : Nat) : Int) := by
  have hE : FP.Core.fieldE FP.Core.b32 u.toNat = u.toNat / 8388608 % 256 := f_E _
  have hf : ff u := by
    unfold ff
    rw [hE]
    omega
  have hS : fS u = false := by
    rw [f_fS]
    exact decide_eq_false (by omega)
  refine ⟨hf, hS, ?_⟩
  rw [f_val hf, hS]
  show ((z_mg FP.Core.b32 u.toNat : Nat) : Int) = _
  refine congrArg (fun n : Nat => (n : Int)) ?_
  unfold z_mg
  rw [hE, f_T, z_m32, z_k32.2.1]
  by_cases c : q = 16777216
  · rw [show u.toNat / 8388608 % 256 = s + 2 by omega, show u.toNat % 8388608 = 0 by omega, if_neg (by omega), show 925 + (s + 2 - 1) = (s + 925) + 1 by omega, Nat.pow_succ, c]
    omega
  · by_cases d : q < 8388608
    · have : s = 0 := by omega
      subst this
      rw [show u.toNat / 8388608 % 256 = 0 by omega, if_pos rfl, show u.toNat % 8388608 = q by omega]
    · rw [show u.toNat / 8388608 % 256 = s + 1 by omega, if_neg (by omega), show u.toNat % 8388608 = q - 8388608 by omega, show 925 + (s + 1 - 1) = s + 925 by omega, show 8388608 + (q - 8388608) = q by omega]
